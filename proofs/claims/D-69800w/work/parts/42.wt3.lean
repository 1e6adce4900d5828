/-! what each method needs (printed by tools/gen_wp.py) -/
set_option maxRecDepth 4000
def W_X8_eval_137 (D : JD) (d : Nat) (Q : JO → JH → Prop) (q0 : Nat) (h : JH) : Prop :=
  Q (.inl (some (vR 46 q0))) h
theorem w_X8_eval_137 {D : JD} {d : Nat} {Q : JO → JH → Prop} {q0 : Nat} {h : JH} (w : W_X8_eval_137 D d Q q0 h) : JW D (d + 1) mX8_eval 137 [none, none, none, none, none, none, none] [vR 46 q0] h Q := by
  unfold W_X8_eval_137 at w
  exact jw_areturn rfl rfl rfl rfl rfl w
def W_X8_eval_158 (D : JD) (d : Nat) (Q : JO → JH → Prop) (q0 : Nat) (h : JH) : Prop :=
  Q (.inl (some (vR 46 q0))) h
theorem w_X8_eval_158 {D : JD} {d : Nat} {Q : JO → JH → Prop} {q0 : Nat} {h : JH} (w : W_X8_eval_158 D d Q q0 h) : JW D (d + 1) mX8_eval 158 [none, none, none, none, none, none, none] [vR 46 q0] h Q := by
  unfold W_X8_eval_158 at w
  exact jw_areturn rfl rfl rfl rfl rfl w
def W_X8_eval_207 (D : JD) (d : Nat) (Q : JO → JH → Prop) (r0 : Nat) (h : JH) : Prop :=
  r0 ≠ 0 ∧ (cX8_value D d r0 (0 : Int32) (0 : Int64) h (pR D h 46 (fun v_4 h_2 => Q (.inl (some (vR 46 v_4))) h_2) (jth Q)))
theorem w_X8_eval_207 {D : JD} {d : Nat} {Q : JO → JH → Prop} {r0 : Nat} {h : JH} (w : W_X8_eval_207 D d Q r0 h) : JW D (d + 1) mX8_eval 207 [some (vR 41 r0), none, none, none, none, none, none] [] h Q := by
  unfold W_X8_eval_207 at w
  refine jw_aload_n (pc' := 208) rfl rfl ?_
  refine jw_iconst (pc' := 209) (x := (0 : Int32)) rfl rfl ?_
  refine jw_lconst (pc' := 210) (x := (0 : Int64)) rfl rfl ?_
  obtain ⟨g_1, w⟩ := w
  refine jw_cR (st := []) (sa := [vR 41 r0, vI (0 : Int32), vL (0 : Int64)]) okX8_value rfl rfl rfl rfl rfl rfl (jstp_virtual (sa := [vI (0 : Int32), vL (0 : Int64)]) (st := []) (k := 0) rfl rfl sX8_value okX8_value g_1 (one41.k g_1) rfl rfl) w (fun v_4 h_2 _ _ _ w => ?_)
  exact jw_areturn rfl rfl rfl rfl rfl w
def W_X8_eval_242 (D : JD) (d : Nat) (Q : JO → JH → Prop) (q0 : Nat) (s1 : Int32) (h : JH) : Prop :=
  q0 ≠ 0 ∧ (cX8_truth D d q0 s1 h (pR D h 46 (fun v_4 h_2 => Q (.inl (some (vR 46 v_4))) h_2) (jth Q)))
theorem w_X8_eval_242 {D : JD} {d : Nat} {Q : JO → JH → Prop} {q0 : Nat} {s1 : Int32} {h : JH} (w : W_X8_eval_242 D d Q q0 s1 h) : JW D (d + 1) mX8_eval 242 [none, none, none, none, none, none, none] [vI s1, vR 41 q0] h Q := by
  unfold W_X8_eval_242 at w
  obtain ⟨g_1, w⟩ := w
  refine jw_cR (st := []) (sa := [vR 41 q0, vI s1]) okX8_truth rfl rfl rfl rfl rfl rfl (jstp_virtual (sa := [vI s1]) (st := []) (k := 0) rfl rfl sX8_truth okX8_truth g_1 (one41.k g_1) rfl rfl) w (fun v_4 h_2 _ _ _ w => ?_)
  exact jw_areturn rfl rfl rfl rfl rfl w
def W_X8_eval_234 (D : JD) (d : Nat) (Q : JO → JH → Prop) (q0 : Nat) (s1 : Int32) (s2 : Int32) (h : JH) : Prop :=
  (s1 = s2 → W_X8_eval_242 D d Q q0 (0 : Int32) h) ∧ (¬ s1 = s2 → W_X8_eval_242 D d Q q0 (1 : Int32) h)
theorem w_X8_eval_234 {D : JD} {d : Nat} {Q : JO → JH → Prop} {q0 : Nat} {s1 : Int32} {s2 : Int32} {h : JH} (w : W_X8_eval_234 D d Q q0 s1 s2 h) : JW D (d + 1) mX8_eval 234 [none, none, none, none, none, none, none] [vI s2, vI s1, vR 41 q0] h Q := by
  unfold W_X8_eval_234 at w
  refine jw_icmp_eq (tgt := 241) (pc' := 237) rfl rfl (fun c_1 => ?_) (fun c_1 => ?_)
  · replace w := w.1 c_1
    refine jw_iconst (pc' := 242) (x := (0 : Int32)) rfl rfl ?_
    exact w_X8_eval_242 w
  · replace w := w.2 c_1
    refine jw_iconst (pc' := 238) (x := (1 : Int32)) rfl rfl ?_
    refine jw_goto (pc' := 242) rfl rfl ?_
    exact w_X8_eval_242 w
def W_X8_eval_295 (D : JD) (d : Nat) (Q : JO → JH → Prop) (q0 : Nat) (s1 : Int32) (h : JH) : Prop :=
  q0 ≠ 0 ∧ (cX8_truth D d q0 s1 h (pR D h 46 (fun v_4 h_2 => Q (.inl (some (vR 46 v_4))) h_2) (jth Q)))
theorem w_X8_eval_295 {D : JD} {d : Nat} {Q : JO → JH → Prop} {q0 : Nat} {s1 : Int32} {h : JH} (w : W_X8_eval_295 D d Q q0 s1 h) : JW D (d + 1) mX8_eval 295 [none, none, none, none, none, none, none] [vI s1, vR 41 q0] h Q := by
  unfold W_X8_eval_295 at w
  obtain ⟨g_1, w⟩ := w
  refine jw_cR (st := []) (sa := [vR 41 q0, vI s1]) okX8_truth rfl rfl rfl rfl rfl rfl (jstp_virtual (sa := [vI s1]) (st := []) (k := 0) rfl rfl sX8_truth okX8_truth g_1 (one41.k g_1) rfl rfl) w (fun v_4 h_2 _ _ _ w => ?_)
  exact jw_areturn rfl rfl rfl rfl rfl w
def W_X8_eval_287 (D : JD) (d : Nat) (Q : JO → JH → Prop) (q0 : Nat) (s1 : Int32) (s2 : Int32) (h : JH) : Prop :=
  (s1 = s2 → W_X8_eval_295 D d Q q0 (0 : Int32) h) ∧ (¬ s1 = s2 → W_X8_eval_295 D d Q q0 (1 : Int32) h)
theorem w_X8_eval_287 {D : JD} {d : Nat} {Q : JO → JH → Prop} {q0 : Nat} {s1 : Int32} {s2 : Int32} {h : JH} (w : W_X8_eval_287 D d Q q0 s1 s2 h) : JW D (d + 1) mX8_eval 287 [none, none, none, none, none, none, none] [vI s2, vI s1, vR 41 q0] h Q := by
  unfold W_X8_eval_287 at w
  refine jw_icmp_eq (tgt := 294) (pc' := 290) rfl rfl (fun c_1 => ?_) (fun c_1 => ?_)
  · replace w := w.1 c_1
    refine jw_iconst (pc' := 295) (x := (0 : Int32)) rfl rfl ?_
    exact w_X8_eval_295 w
  · replace w := w.2 c_1
    refine jw_iconst (pc' := 291) (x := (1 : Int32)) rfl rfl ?_
    refine jw_goto (pc' := 295) rfl rfl ?_
    exact w_X8_eval_295 w
def W_X8_eval_274 (D : JD) (d : Nat) (Q : JO → JH → Prop) (r1 : Nat) (q0 : Nat) (s1 : Int32) (h : JH) : Prop :=
  r1 ≠ 0 ∧ ((¬ (jfi h 306 r1) = (1 : Int32) → W_X8_eval_287 D d Q q0 s1 (0 : Int32) h) ∧ ((jfi h 306 r1) = (1 : Int32) → W_X8_eval_287 D d Q q0 s1 (1 : Int32) h))
theorem w_X8_eval_274 {D : JD} {d : Nat} {Q : JO → JH → Prop} {r1 : Nat} {q0 : Nat} {s1 : Int32} {h : JH} (w : W_X8_eval_274 D d Q r1 q0 s1 h) : JW D (d + 1) mX8_eval 274 [none, some (vR 48 r1), none, none, none, none, none] [vI s1, vR 41 q0] h Q := by
  unfold W_X8_eval_274 at w
  refine jw_aload_n (pc' := 275) rfl rfl ?_
  obtain ⟨g_1, w⟩ := w
  refine jw_getI (pc' := 278) (F := 306) rfl rfl rfl rfl g_1 ?_
  refine jw_iconst (pc' := 279) (x := (1 : Int32)) rfl rfl ?_
  refine jw_icmp_ne (tgt := 286) (pc' := 282) rfl rfl (fun c_2 => ?_) (fun c_2 => ?_)
  · replace w := w.1 c_2
    refine jw_iconst (pc' := 287) (x := (0 : Int32)) rfl rfl ?_
    refine jw_gen (ls' := [none, none, none, none, none, none, none]) (st' := [vI (0 : Int32), vI s1, vR 41 q0]) (trivial) (And.intro (Or.inl rfl) (And.intro (Or.inl rfl) (And.intro (Or.inl rfl) (trivial)))) ?_
    exact w_X8_eval_287 w
  · replace w := w.2 c_2
    refine jw_iconst (pc' := 283) (x := (1 : Int32)) rfl rfl ?_
    refine jw_goto (pc' := 287) rfl rfl ?_
    refine jw_gen (ls' := [none, none, none, none, none, none, none]) (st' := [vI (1 : Int32), vI s1, vR 41 q0]) (trivial) (And.intro (Or.inl rfl) (And.intro (Or.inl rfl) (And.intro (Or.inl rfl) (trivial)))) ?_
    exact w_X8_eval_287 w
def W_X8_eval_388 (D : JD) (d : Nat) (Q : JO → JH → Prop) (q0 : Nat) (h : JH) : Prop :=
  Q (.inl (some (vR 46 q0))) h
theorem w_X8_eval_388 {D : JD} {d : Nat} {Q : JO → JH → Prop} {q0 : Nat} {h : JH} (w : W_X8_eval_388 D d Q q0 h) : JW D (d + 1) mX8_eval 388 [none, none, none, none, none, none, none] [vR 46 q0] h Q := by
  unfold W_X8_eval_388 at w
  exact jw_areturn rfl rfl rfl rfl rfl w
def W_X8_eval_0 (D : JD) (d : Nat) (Q : JO → JH → Prop) (r0 : Nat) (r1 : Nat) (h : JH) : Prop :=
  r1 ≠ 0 ∧ (((jfi h 305 r1) = (0 : Int32) → Q (.inl (some (vR 46 (jfr h 309 r1)))) h) ∧ ((jfi h 305 r1) = (1 : Int32) → r0 ≠ 0 ∧ ((jfr h 203 r0) ≠ 0 ∧ jin (jfi h 306 r1) (jln h (jfr h 203 r0)) ∧ (Q (.inl (some (vR 46 (jar h (jfr h 203 r0) (ixn (jfi h 306 r1)))))) h))) ∧ ((jfi h 305 r1) = (2 : Int32) → r0 ≠ 0 ∧ ((jfr h 204 r0) ≠ 0 ∧ jin (jfi h 313 r1) (jln h (jfr h 204 r0)) ∧ ((0 ≤ (jai h (jfr h 204 r0) (ixn (jfi h 313 r1))) → (jfr h 200 r0) ≠ 0 ∧ jin (jfi h 313 r1) (jln h (jfr h 200 r0)) ∧ (jin (jfi h 313 r1) (jln h (jfr h 204 r0)) ∧ ((jar h (jfr h 200 r0) (ixn (jfi h 313 r1))) ≠ 0 ∧ (cX11_cell D d (jar h (jfr h 200 r0) (ixn (jfi h 313 r1))) (jai h (jfr h 204 r0) (ixn (jfi h 313 r1))) (jfi h 314 r1) h (pR D h 46 (fun v_18 h_16 => W_X8_eval_137 D d Q v_18 h_16) (jth Q)))))) ∧ (¬ 0 ≤ (jai h (jfr h 204 r0) (ixn (jfi h 313 r1))) → cX8_value D d r0 (0 : Int32) (0 : Int64) h (pR D h 46 (fun v_21 h_19 => W_X8_eval_137 D d Q v_21 h_19) (jth Q)))))) ∧ ((jfi h 305 r1) = (3 : Int32) → cX8_isGather D d r1 h (pI D h (fun v_25 h_23 => (v_25 = 0 → r0 ≠ 0 ∧ (cX8_called D d r0 r1 h_23 (pR D h_23 46 (fun v_30 h_28 => W_X8_eval_158 D d Q v_30 h_28) (jth Q)))) ∧ (¬ v_25 = 0 → r0 ≠ 0 ∧ (cX8_gather D d r0 r1 h_23 (pR D h_23 46 (fun v_34 h_32 => W_X8_eval_158 D d Q v_34 h_32) (jth Q))))) (jth Q))) ∧ ((jfi h 305 r1) = (4 : Int32) → r0 ≠ 0 ∧ (cX8_cased D d r0 r1 h (pR D h 46 (fun v_39 h_37 => Q (.inl (some (vR 46 v_39))) h_37) (jth Q)))) ∧ ((jfi h 305 r1) = (5 : Int32) → r0 ≠ 0 ∧ (cX8_among D d r0 r1 h (pR D h 46 (fun v_44 h_42 => Q (.inl (some (vR 46 v_44))) h_42) (jth Q)))) ∧ ((jfi h 305 r1) = (6 : Int32) → (jfr h 310 r1) ≠ 0 ∧ jin (0 : Int32) (jln h (jfr h 310 r1)) ∧ (r0 ≠ 0 ∧ (cX8_eval D d r0 (jar h (jfr h 310 r1) (ixn (0 : Int32))) h (pR D h 46 (fun v_51 h_49 => (jfr h_49 310 r1) ≠ 0 ∧ jin (1 : Int32) (jln h_49 (jfr h_49 310 r1)) ∧ (cX8_eval D d r0 (jar h_49 (jfr h_49 310 r1) (ixn (1 : Int32))) h_49 (pR D h_49 46 (fun v_56 h_54 => v_51 ≠ 0 ∧ (((jfi h_54 266 v_51) = 0 → W_X8_eval_207 D d Q r0 h_54) ∧ (¬ (jfi h_54 266 v_51) = 0 → v_56 ≠ 0 ∧ ((¬ (jfi h_54 266 v_56) = 0 → cX8_like D d r0 v_51 v_56 h_54 (pI D h_54 (fun v_63 h_61 => (¬ (jfi h_61 306 r1) = (1 : Int32) → W_X8_eval_234 D d Q r0 v_63 (0 : Int32) h_61) ∧ ((jfi h_61 306 r1) = (1 : Int32) → W_X8_eval_234 D d Q r0 v_63 (1 : Int32) h_61)) (jth Q))) ∧ ((jfi h_54 266 v_56) = 0 → W_X8_eval_207 D d Q r0 h_54))))) (jth Q)))) (jth Q))))) ∧ ((jfi h 305 r1) = (7 : Int32) → r0 ≠ 0 ∧ (cX8_between D d r0 r1 h (pR D h 46 (fun v_69 h_67 => Q (.inl (some (vR 46 v_69))) h_67) (jth Q)))) ∧ ((jfi h 305 r1) = (8 : Int32) → (jfr h 310 r1) ≠ 0 ∧ jin (0 : Int32) (jln h (jfr h 310 r1)) ∧ (r0 ≠ 0 ∧ (cX8_eval D d r0 (jar h (jfr h 310 r1) (ixn (0 : Int32))) h (pR D h 46 (fun v_76 h_74 => v_76 ≠ 0 ∧ ((¬ (jfi h_74 266 v_76) = 0 → W_X8_eval_274 D d Q r1 r0 (0 : Int32) h_74) ∧ ((jfi h_74 266 v_76) = 0 → W_X8_eval_274 D d Q r1 r0 (1 : Int32) h_74))) (jth Q))))) ∧ ((jfi h 305 r1) = (9 : Int32) → (jfr h 310 r1) ≠ 0 ∧ jin (0 : Int32) (jln h (jfr h 310 r1)) ∧ (r0 ≠ 0 ∧ (cX8_eval D d r0 (jar h (jfr h 310 r1) (ixn (0 : Int32))) h (pR D h 46 (fun v_85 h_83 => (jfr h_83 310 r1) ≠ 0 ∧ jin (1 : Int32) (jln h_83 (jfr h_83 310 r1)) ∧ (cX8_eval D d r0 (jar h_83 (jfr h_83 310 r1) (ixn (1 : Int32))) h_83 (pR D h_83 46 (fun v_90 h_88 => cX8_told D d r0 (jfi h_83 306 r1) v_85 v_90 h_88 (pR D h_88 46 (fun v_93 h_91 => Q (.inl (some (vR 46 v_93))) h_91) (jth Q))) (jth Q)))) (jth Q))))) ∧ ((jfi h 305 r1) = (10 : Int32) → r0 ≠ 0 ∧ (cX8_joined D d r0 r1 h (pR D h 46 (fun v_98 h_96 => Q (.inl (some (vR 46 v_98))) h_96) (jth Q)))) ∧ ((jfi h 305 r1) = (11 : Int32) → r0 ≠ 0 ∧ (cX8_joined D d r0 r1 h (pR D h 46 (fun v_103 h_101 => Q (.inl (some (vR 46 v_103))) h_101) (jth Q)))) ∧ ((jfi h 305 r1) = (12 : Int32) → (jfr h 310 r1) ≠ 0 ∧ jin (0 : Int32) (jln h (jfr h 310 r1)) ∧ (r0 ≠ 0 ∧ (cX8_eval D d r0 (jar h (jfr h 310 r1) (ixn (0 : Int32))) h (pR D h 46 (fun v_110 h_108 => cX8_turned D d r0 v_110 h_108 (pR D h_108 46 (fun v_113 h_111 => Q (.inl (some (vR 46 v_113))) h_111) (jth Q))) (jth Q))))) ∧ ((jfi h 305 r1) = (13 : Int32) → (jfr h 310 r1) ≠ 0 ∧ jin (0 : Int32) (jln h (jfr h 310 r1)) ∧ (r0 ≠ 0 ∧ (cX8_eval D d r0 (jar h (jfr h 310 r1) (ixn (0 : Int32))) h (pR D h 46 (fun v_120 h_118 => v_120 ≠ 0 ∧ ((¬ (jfi h_118 266 v_120) = 0 → cX8_number D d r0 (-(jfl h_118 267 v_120)) h_118 (pR D h_118 46 (fun v_125 h_123 => W_X8_eval_388 D d Q v_125 h_123) (jth Q))) ∧ ((jfi h_118 266 v_120) = 0 → W_X8_eval_388 D d Q v_120 h_118))) (jth Q))))) ∧ (¬ (jfi h 305 r1) = (0 : Int32) → ¬ (jfi h 305 r1) = (1 : Int32) → ¬ (jfi h 305 r1) = (2 : Int32) → ¬ (jfi h 305 r1) = (3 : Int32) → ¬ (jfi h 305 r1) = (4 : Int32) → ¬ (jfi h 305 r1) = (5 : Int32) → ¬ (jfi h 305 r1) = (6 : Int32) → ¬ (jfi h 305 r1) = (7 : Int32) → ¬ (jfi h 305 r1) = (8 : Int32) → ¬ (jfi h 305 r1) = (9 : Int32) → ¬ (jfi h 305 r1) = (10 : Int32) → ¬ (jfi h 305 r1) = (11 : Int32) → ¬ (jfi h 305 r1) = (12 : Int32) → ¬ (jfi h 305 r1) = (13 : Int32) → (jfr h 310 r1) ≠ 0 ∧ jin (0 : Int32) (jln h (jfr h 310 r1)) ∧ (r0 ≠ 0 ∧ (cX8_eval D d r0 (jar h (jfr h 310 r1) (ixn (0 : Int32))) h (pR D h 46 (fun v_131 h_129 => (jfr h_129 310 r1) ≠ 0 ∧ jin (1 : Int32) (jln h_129 (jfr h_129 310 r1)) ∧ (cX8_eval D d r0 (jar h_129 (jfr h_129 310 r1) (ixn (1 : Int32))) h_129 (pR D h_129 46 (fun v_136 h_134 => cX8_worked D d r0 (jfi h_129 306 r1) v_131 v_136 h_134 (pR D h_134 46 (fun v_139 h_137 => Q (.inl (some (vR 46 v_139))) h_137) (jth Q))) (jth Q)))) (jth Q))))))
theorem w_X8_eval_0 {D : JD} {d : Nat} {Q : JO → JH → Prop} {r0 : Nat} {r1 : Nat} {h : JH} (w : W_X8_eval_0 D d Q r0 r1 h) : JW D (d + 1) mX8_eval 0 [some (vR 41 r0), some (vR 48 r1), none, none, none, none, none] [] h Q := by
  unfold W_X8_eval_0 at w
  refine jw_aload_n (pc' := 1) rfl rfl ?_
  obtain ⟨g_1, w⟩ := w
  refine jw_getI (pc' := 4) (F := 305) rfl rfl rfl rfl g_1 ?_
  refine jw_tsw (cs := [((0 : Int32), 76), ((1 : Int32), 81), ((2 : Int32), 91), ((3 : Int32), 138), ((4 : Int32), 159), ((5 : Int32), 165), ((6 : Int32), 171), ((7 : Int32), 246), ((8 : Int32), 252), ((9 : Int32), 299), ((10 : Int32), 332), ((11 : Int32), 332), ((12 : Int32), 338), ((13 : Int32), 353)]) (dt := 389) rfl (by decide +kernel) ?_
  by_cases c_2 : (jfi h 305 r1) = (0 : Int32)
  · rw [jsw_hit c_2]
    replace w := w.1 c_2
    refine jw_aload_n (pc' := 77) rfl rfl ?_
    refine jw_getR (pc' := 80) (F := 309) (t' := 105) rfl rfl rfl rfl rfl g_1 ?_
    exact jw_areturn rfl rfl rfl rfl rfl w
  · rw [jsw_miss c_2]
    replace w := w.2
    by_cases c_3 : (jfi h 305 r1) = (1 : Int32)
    · rw [jsw_hit c_3]
      replace w := w.1 c_3
      refine jw_aload_n (pc' := 82) rfl rfl ?_
      obtain ⟨g_4, w⟩ := w
      refine jw_getR (pc' := 85) (F := 203) (t' := 86) rfl rfl rfl rfl rfl g_4 ?_
      refine jw_aload_n (pc' := 86) rfl rfl ?_
      refine jw_getI (pc' := 89) (F := 306) rfl rfl rfl rfl g_1 ?_
      obtain ⟨g_5, w⟩ := w
      obtain ⟨g_6, w⟩ := w
      refine jw_aald (pc' := 90) (t' := 46) rfl rfl rfl rfl g_5 g_6.ix g_6.2 ?_
      exact jw_areturn rfl rfl rfl rfl rfl w
    · rw [jsw_miss c_3]
      replace w := w.2
      by_cases c_7 : (jfi h 305 r1) = (2 : Int32)
      · rw [jsw_hit c_7]
        replace w := w.1 c_7
        refine jw_aload_n (pc' := 92) rfl rfl ?_
        obtain ⟨g_8, w⟩ := w
        refine jw_getR (pc' := 95) (F := 204) (t' := 168) rfl rfl rfl rfl rfl g_8 ?_
        refine jw_aload_n (pc' := 96) rfl rfl ?_
        refine jw_getI (pc' := 99) (F := 313) rfl rfl rfl rfl g_1 ?_
        obtain ⟨g_9, w⟩ := w
        obtain ⟨g_10, w⟩ := w
        refine jw_iald (pc' := 100) rfl rfl rfl rfl g_9 g_10.ix g_10.2 ?_
        refine jw_if_ge (tgt := 112) (pc' := 103) rfl rfl (fun c_11 => ?_) (fun c_11 => ?_)
        · replace w := w.1 c_11
          refine jw_aload_n (pc' := 113) rfl rfl ?_
          refine jw_getR (pc' := 116) (F := 200) (t' := 167) rfl rfl rfl rfl rfl g_8 ?_
          refine jw_aload_n (pc' := 117) rfl rfl ?_
          refine jw_getI (pc' := 120) (F := 313) rfl rfl rfl rfl g_1 ?_
          obtain ⟨g_12, w⟩ := w
          obtain ⟨g_13, w⟩ := w
          refine jw_aald (pc' := 121) (t' := 44) rfl rfl rfl rfl g_12 g_13.ix g_13.2 ?_
          refine jw_aload_n (pc' := 122) rfl rfl ?_
          refine jw_getR (pc' := 125) (F := 204) (t' := 168) rfl rfl rfl rfl rfl g_8 ?_
          refine jw_aload_n (pc' := 126) rfl rfl ?_
          refine jw_getI (pc' := 129) (F := 313) rfl rfl rfl rfl g_1 ?_
          obtain ⟨g_14, w⟩ := w
          refine jw_iald (pc' := 130) rfl rfl rfl rfl g_9 g_14.ix g_14.2 ?_
          refine jw_aload_n (pc' := 131) rfl rfl ?_
          refine jw_getI (pc' := 134) (F := 314) rfl rfl rfl rfl g_1 ?_
          obtain ⟨g_15, w⟩ := w
          refine jw_cR (st := []) (sa := [vR 44 (jar h (jfr h 200 r0) (ixn (jfi h 313 r1))), vI (jai h (jfr h 204 r0) (ixn (jfi h 313 r1))), vI (jfi h 314 r1)]) okX11_cell rfl rfl rfl rfl rfl rfl (jstp_virtual (sa := [vI (jai h (jfr h 204 r0) (ixn (jfi h 313 r1))), vI (jfi h 314 r1)]) (st := []) (k := 0) rfl rfl sX11_cell okX11_cell g_15 (one44.k g_15) rfl rfl) w (fun v_18 h_16 _ _ _ w => ?_)
          refine jw_gen (ls' := [none, none, none, none, none, none, none]) (st' := [vR 46 v_18]) (trivial) (And.intro (Or.inl rfl) (trivial)) ?_
          exact w_X8_eval_137 w
        · replace w := w.2 c_11
          refine jw_aload_n (pc' := 104) rfl rfl ?_
          refine jw_iconst (pc' := 105) (x := (0 : Int32)) rfl rfl ?_
          refine jw_lconst (pc' := 106) (x := (0 : Int64)) rfl rfl ?_
          refine jw_cR (st := []) (sa := [vR 41 r0, vI (0 : Int32), vL (0 : Int64)]) okX8_value rfl rfl rfl rfl rfl rfl (jstp_virtual (sa := [vI (0 : Int32), vL (0 : Int64)]) (st := []) (k := 0) rfl rfl sX8_value okX8_value g_8 (one41.k g_8) rfl rfl) w (fun v_21 h_19 _ _ _ w => ?_)
          refine jw_goto (pc' := 137) rfl rfl ?_
          refine jw_gen (ls' := [none, none, none, none, none, none, none]) (st' := [vR 46 v_21]) (trivial) (And.intro (Or.inl rfl) (trivial)) ?_
          exact w_X8_eval_137 w
      · rw [jsw_miss c_7]
        replace w := w.2
        by_cases c_22 : (jfi h 305 r1) = (3 : Int32)
        · rw [jsw_hit c_22]
          replace w := w.1 c_22
          refine jw_aload_n (pc' := 139) rfl rfl ?_
          refine jw_cI (st := []) (sa := [vR 48 r1]) okX8_isGather rfl rfl rfl rfl rfl rfl (jstp_static (sa := [vR 48 r1]) (st := []) rfl rfl sX8_isGather okX8_isGather rfl rfl) w (fun v_25 h_23 _ _ w => ?_)
          refine jw_if_eq (tgt := 153) (pc' := 145) rfl rfl (fun c_26 => ?_) (fun c_26 => ?_)
          · replace w := w.1 c_26
            refine jw_aload_n (pc' := 154) rfl rfl ?_
            refine jw_aload_n (pc' := 155) rfl rfl ?_
            obtain ⟨g_27, w⟩ := w
            refine jw_cR (st := []) (sa := [vR 41 r0, vR 48 r1]) okX8_called rfl rfl rfl rfl rfl rfl (jstp_virtual (sa := [vR 48 r1]) (st := []) (k := 0) rfl rfl sX8_called okX8_called g_27 (one41.k g_27) rfl rfl) w (fun v_30 h_28 _ _ _ w => ?_)
            refine jw_gen (ls' := [none, none, none, none, none, none, none]) (st' := [vR 46 v_30]) (trivial) (And.intro (Or.inl rfl) (trivial)) ?_
            exact w_X8_eval_158 w
          · replace w := w.2 c_26
            refine jw_aload_n (pc' := 146) rfl rfl ?_
            refine jw_aload_n (pc' := 147) rfl rfl ?_
            obtain ⟨g_31, w⟩ := w
            refine jw_cR (st := []) (sa := [vR 41 r0, vR 48 r1]) okX8_gather rfl rfl rfl rfl rfl rfl (jstp_virtual (sa := [vR 48 r1]) (st := []) (k := 0) rfl rfl sX8_gather okX8_gather g_31 (one41.k g_31) rfl rfl) w (fun v_34 h_32 _ _ _ w => ?_)
            refine jw_goto (pc' := 158) rfl rfl ?_
            refine jw_gen (ls' := [none, none, none, none, none, none, none]) (st' := [vR 46 v_34]) (trivial) (And.intro (Or.inl rfl) (trivial)) ?_
            exact w_X8_eval_158 w
        · rw [jsw_miss c_22]
          replace w := w.2
          by_cases c_35 : (jfi h 305 r1) = (4 : Int32)
          · rw [jsw_hit c_35]
            replace w := w.1 c_35
            refine jw_aload_n (pc' := 160) rfl rfl ?_
            refine jw_aload_n (pc' := 161) rfl rfl ?_
            obtain ⟨g_36, w⟩ := w
            refine jw_cR (st := []) (sa := [vR 41 r0, vR 48 r1]) okX8_cased rfl rfl rfl rfl rfl rfl (jstp_virtual (sa := [vR 48 r1]) (st := []) (k := 0) rfl rfl sX8_cased okX8_cased g_36 (one41.k g_36) rfl rfl) w (fun v_39 h_37 _ _ _ w => ?_)
            exact jw_areturn rfl rfl rfl rfl rfl w
          · rw [jsw_miss c_35]
            replace w := w.2
            by_cases c_40 : (jfi h 305 r1) = (5 : Int32)
            · rw [jsw_hit c_40]
              replace w := w.1 c_40
              refine jw_aload_n (pc' := 166) rfl rfl ?_
              refine jw_aload_n (pc' := 167) rfl rfl ?_
              obtain ⟨g_41, w⟩ := w
              refine jw_cR (st := []) (sa := [vR 41 r0, vR 48 r1]) okX8_among rfl rfl rfl rfl rfl rfl (jstp_virtual (sa := [vR 48 r1]) (st := []) (k := 0) rfl rfl sX8_among okX8_among g_41 (one41.k g_41) rfl rfl) w (fun v_44 h_42 _ _ _ w => ?_)
              exact jw_areturn rfl rfl rfl rfl rfl w
            · rw [jsw_miss c_40]
              replace w := w.2
              by_cases c_45 : (jfi h 305 r1) = (6 : Int32)
              · rw [jsw_hit c_45]
                replace w := w.1 c_45
                refine jw_aload_n (pc' := 172) rfl rfl ?_
                refine jw_aload_n (pc' := 173) rfl rfl ?_
                refine jw_getR (pc' := 176) (F := 310) (t' := 215) rfl rfl rfl rfl rfl g_1 ?_
                refine jw_iconst (pc' := 177) (x := (0 : Int32)) rfl rfl ?_
                obtain ⟨g_46, w⟩ := w
                obtain ⟨g_47, w⟩ := w
                refine jw_aald (pc' := 178) (t' := 48) rfl rfl rfl rfl g_46 g_47.ix g_47.2 ?_
                obtain ⟨g_48, w⟩ := w
                refine jw_cR (st := []) (sa := [vR 41 r0, vR 48 (jar h (jfr h 310 r1) (ixn (0 : Int32)))]) okX8_eval rfl rfl rfl rfl rfl rfl (jstp_virtual (sa := [vR 48 (jar h (jfr h 310 r1) (ixn (0 : Int32)))]) (st := []) (k := 0) rfl rfl sX8_eval okX8_eval g_48 (one41.k g_48) rfl rfl) w (fun v_51 h_49 _ _ _ w => ?_)
                refine jw_astore_n (pc' := 182) (ls' := [some (vR 41 r0), some (vR 48 r1), some (vR 46 v_51), none, none, none, none]) rfl (by decide) rfl ?_
                refine jw_aload_n (pc' := 183) rfl rfl ?_
                refine jw_aload_n (pc' := 184) rfl rfl ?_
                refine jw_getR (pc' := 187) (F := 310) (t' := 215) rfl rfl rfl rfl rfl g_1 ?_
                refine jw_iconst (pc' := 188) (x := (1 : Int32)) rfl rfl ?_
                obtain ⟨g_52, w⟩ := w
                obtain ⟨g_53, w⟩ := w
                refine jw_aald (pc' := 189) (t' := 48) rfl rfl rfl rfl g_52 g_53.ix g_53.2 ?_
                refine jw_cR (st := []) (sa := [vR 41 r0, vR 48 (jar h_49 (jfr h_49 310 r1) (ixn (1 : Int32)))]) okX8_eval rfl rfl rfl rfl rfl rfl (jstp_virtual (sa := [vR 48 (jar h_49 (jfr h_49 310 r1) (ixn (1 : Int32)))]) (st := []) (k := 0) rfl rfl sX8_eval okX8_eval g_48 (one41.k g_48) rfl rfl) w (fun v_56 h_54 _ _ _ w => ?_)
                refine jw_astore_n (pc' := 193) (ls' := [some (vR 41 r0), some (vR 48 r1), some (vR 46 v_51), some (vR 46 v_56), none, none, none]) rfl (by decide) rfl ?_
                refine jw_aload_n (pc' := 194) rfl rfl ?_
                obtain ⟨g_57, w⟩ := w
                refine jw_getI (pc' := 197) (F := 266) rfl rfl rfl rfl g_57 ?_
                refine jw_if_eq (tgt := 207) (pc' := 200) rfl rfl (fun c_58 => ?_) (fun c_58 => ?_)
                · replace w := w.1 c_58
                  refine jw_gen (ls' := [some (vR 41 r0), none, none, none, none, none, none]) (st' := []) (And.intro (Or.inl rfl) (trivial)) (trivial) ?_
                  exact w_X8_eval_207 w
                · replace w := w.2 c_58
                  refine jw_aload_n (pc' := 201) rfl rfl ?_
                  obtain ⟨g_59, w⟩ := w
                  refine jw_getI (pc' := 204) (F := 266) rfl rfl rfl rfl g_59 ?_
                  refine jw_if_ne (tgt := 214) (pc' := 207) rfl rfl (fun c_60 => ?_) (fun c_60 => ?_)
                  · replace w := w.1 c_60
                    refine jw_aload_n (pc' := 215) rfl rfl ?_
                    refine jw_aload_n (pc' := 216) rfl rfl ?_
                    refine jw_aload_n (pc' := 217) rfl rfl ?_
                    refine jw_aload_n (pc' := 218) rfl rfl ?_
                    refine jw_cI (st := [vR 41 r0]) (sa := [vR 41 r0, vR 46 v_51, vR 46 v_56]) okX8_like rfl rfl rfl rfl rfl rfl (jstp_virtual (sa := [vR 46 v_51, vR 46 v_56]) (st := [vR 41 r0]) (k := 0) rfl rfl sX8_like okX8_like g_48 (one41.k g_48) rfl rfl) w (fun v_63 h_61 _ _ w => ?_)
                    refine jw_aload_n (pc' := 222) rfl rfl ?_
                    refine jw_getI (pc' := 225) (F := 306) rfl rfl rfl rfl g_1 ?_
                    refine jw_iconst (pc' := 226) (x := (1 : Int32)) rfl rfl ?_
                    refine jw_icmp_ne (tgt := 233) (pc' := 229) rfl rfl (fun c_64 => ?_) (fun c_64 => ?_)
                    · replace w := w.1 c_64
                      refine jw_iconst (pc' := 234) (x := (0 : Int32)) rfl rfl ?_
                      refine jw_gen (ls' := [none, none, none, none, none, none, none]) (st' := [vI (0 : Int32), vI v_63, vR 41 r0]) (trivial) (And.intro (Or.inl rfl) (And.intro (Or.inl rfl) (And.intro (Or.inl rfl) (trivial)))) ?_
                      exact w_X8_eval_234 w
                    · replace w := w.2 c_64
                      refine jw_iconst (pc' := 230) (x := (1 : Int32)) rfl rfl ?_
                      refine jw_goto (pc' := 234) rfl rfl ?_
                      refine jw_gen (ls' := [none, none, none, none, none, none, none]) (st' := [vI (1 : Int32), vI v_63, vR 41 r0]) (trivial) (And.intro (Or.inl rfl) (And.intro (Or.inl rfl) (And.intro (Or.inl rfl) (trivial)))) ?_
                      exact w_X8_eval_234 w
                  · replace w := w.2 c_60
                    refine jw_gen (ls' := [some (vR 41 r0), none, none, none, none, none, none]) (st' := []) (And.intro (Or.inl rfl) (trivial)) (trivial) ?_
                    exact w_X8_eval_207 w
              · rw [jsw_miss c_45]
                replace w := w.2
                by_cases c_65 : (jfi h 305 r1) = (7 : Int32)
                · rw [jsw_hit c_65]
                  replace w := w.1 c_65
                  refine jw_aload_n (pc' := 247) rfl rfl ?_
                  refine jw_aload_n (pc' := 248) rfl rfl ?_
                  obtain ⟨g_66, w⟩ := w
                  refine jw_cR (st := []) (sa := [vR 41 r0, vR 48 r1]) okX8_between rfl rfl rfl rfl rfl rfl (jstp_virtual (sa := [vR 48 r1]) (st := []) (k := 0) rfl rfl sX8_between okX8_between g_66 (one41.k g_66) rfl rfl) w (fun v_69 h_67 _ _ _ w => ?_)
                  exact jw_areturn rfl rfl rfl rfl rfl w
                · rw [jsw_miss c_65]
                  replace w := w.2
                  by_cases c_70 : (jfi h 305 r1) = (8 : Int32)
                  · rw [jsw_hit c_70]
                    replace w := w.1 c_70
                    refine jw_aload_n (pc' := 253) rfl rfl ?_
                    refine jw_aload_n (pc' := 254) rfl rfl ?_
                    refine jw_aload_n (pc' := 255) rfl rfl ?_
                    refine jw_getR (pc' := 258) (F := 310) (t' := 215) rfl rfl rfl rfl rfl g_1 ?_
                    refine jw_iconst (pc' := 259) (x := (0 : Int32)) rfl rfl ?_
                    obtain ⟨g_71, w⟩ := w
                    obtain ⟨g_72, w⟩ := w
                    refine jw_aald (pc' := 260) (t' := 48) rfl rfl rfl rfl g_71 g_72.ix g_72.2 ?_
                    obtain ⟨g_73, w⟩ := w
                    refine jw_cR (st := [vR 41 r0]) (sa := [vR 41 r0, vR 48 (jar h (jfr h 310 r1) (ixn (0 : Int32)))]) okX8_eval rfl rfl rfl rfl rfl rfl (jstp_virtual (sa := [vR 48 (jar h (jfr h 310 r1) (ixn (0 : Int32)))]) (st := [vR 41 r0]) (k := 0) rfl rfl sX8_eval okX8_eval g_73 (one41.k g_73) rfl rfl) w (fun v_76 h_74 _ _ _ w => ?_)
                    obtain ⟨g_77, w⟩ := w
                    refine jw_getI (pc' := 266) (F := 266) rfl rfl rfl rfl g_77 ?_
                    refine jw_if_ne (tgt := 273) (pc' := 269) rfl rfl (fun c_78 => ?_) (fun c_78 => ?_)
                    · replace w := w.1 c_78
                      refine jw_iconst (pc' := 274) (x := (0 : Int32)) rfl rfl ?_
                      refine jw_gen (ls' := [none, some (vR 48 r1), none, none, none, none, none]) (st' := [vI (0 : Int32), vR 41 r0]) (And.intro (Or.inl rfl) (trivial)) (And.intro (Or.inl rfl) (And.intro (Or.inl rfl) (trivial))) ?_
                      exact w_X8_eval_274 w
                    · replace w := w.2 c_78
                      refine jw_iconst (pc' := 270) (x := (1 : Int32)) rfl rfl ?_
                      refine jw_goto (pc' := 274) rfl rfl ?_
                      refine jw_gen (ls' := [none, some (vR 48 r1), none, none, none, none, none]) (st' := [vI (1 : Int32), vR 41 r0]) (And.intro (Or.inl rfl) (trivial)) (And.intro (Or.inl rfl) (And.intro (Or.inl rfl) (trivial))) ?_
                      exact w_X8_eval_274 w
                  · rw [jsw_miss c_70]
                    replace w := w.2
                    by_cases c_79 : (jfi h 305 r1) = (9 : Int32)
                    · rw [jsw_hit c_79]
                      replace w := w.1 c_79
                      refine jw_aload_n (pc' := 300) rfl rfl ?_
                      refine jw_aload_n (pc' := 301) rfl rfl ?_
                      refine jw_getR (pc' := 304) (F := 310) (t' := 215) rfl rfl rfl rfl rfl g_1 ?_
                      refine jw_iconst (pc' := 305) (x := (0 : Int32)) rfl rfl ?_
                      obtain ⟨g_80, w⟩ := w
                      obtain ⟨g_81, w⟩ := w
                      refine jw_aald (pc' := 306) (t' := 48) rfl rfl rfl rfl g_80 g_81.ix g_81.2 ?_
                      obtain ⟨g_82, w⟩ := w
                      refine jw_cR (st := []) (sa := [vR 41 r0, vR 48 (jar h (jfr h 310 r1) (ixn (0 : Int32)))]) okX8_eval rfl rfl rfl rfl rfl rfl (jstp_virtual (sa := [vR 48 (jar h (jfr h 310 r1) (ixn (0 : Int32)))]) (st := []) (k := 0) rfl rfl sX8_eval okX8_eval g_82 (one41.k g_82) rfl rfl) w (fun v_85 h_83 _ _ _ w => ?_)
                      refine jw_astore (pc' := 311) (ls' := [some (vR 41 r0), some (vR 48 r1), none, none, some (vR 46 v_85), none, none]) rfl (by decide) rfl ?_
                      refine jw_aload_n (pc' := 312) rfl rfl ?_
                      refine jw_aload_n (pc' := 313) rfl rfl ?_
                      refine jw_getI (pc' := 316) (F := 306) rfl rfl rfl rfl g_1 ?_
                      refine jw_aload (pc' := 318) rfl rfl ?_
                      refine jw_aload_n (pc' := 319) rfl rfl ?_
                      refine jw_aload_n (pc' := 320) rfl rfl ?_
                      refine jw_getR (pc' := 323) (F := 310) (t' := 215) rfl rfl rfl rfl rfl g_1 ?_
                      refine jw_iconst (pc' := 324) (x := (1 : Int32)) rfl rfl ?_
                      obtain ⟨g_86, w⟩ := w
                      obtain ⟨g_87, w⟩ := w
                      refine jw_aald (pc' := 325) (t' := 48) rfl rfl rfl rfl g_86 g_87.ix g_87.2 ?_
                      refine jw_cR (st := [vR 46 v_85, vI (jfi h_83 306 r1), vR 41 r0]) (sa := [vR 41 r0, vR 48 (jar h_83 (jfr h_83 310 r1) (ixn (1 : Int32)))]) okX8_eval rfl rfl rfl rfl rfl rfl (jstp_virtual (sa := [vR 48 (jar h_83 (jfr h_83 310 r1) (ixn (1 : Int32)))]) (st := [vR 46 v_85, vI (jfi h_83 306 r1), vR 41 r0]) (k := 0) rfl rfl sX8_eval okX8_eval g_82 (one41.k g_82) rfl rfl) w (fun v_90 h_88 _ _ _ w => ?_)
                      refine jw_cR (st := []) (sa := [vR 41 r0, vI (jfi h_83 306 r1), vR 46 v_85, vR 46 v_90]) okX8_told rfl rfl rfl rfl rfl rfl (jstp_virtual (sa := [vI (jfi h_83 306 r1), vR 46 v_85, vR 46 v_90]) (st := []) (k := 0) rfl rfl sX8_told okX8_told g_82 (one41.k g_82) rfl rfl) w (fun v_93 h_91 _ _ _ w => ?_)
                      exact jw_areturn rfl rfl rfl rfl rfl w
                    · rw [jsw_miss c_79]
                      replace w := w.2
                      by_cases c_94 : (jfi h 305 r1) = (10 : Int32)
                      · rw [jsw_hit c_94]
                        replace w := w.1 c_94
                        refine jw_aload_n (pc' := 333) rfl rfl ?_
                        refine jw_aload_n (pc' := 334) rfl rfl ?_
                        obtain ⟨g_95, w⟩ := w
                        refine jw_cR (st := []) (sa := [vR 41 r0, vR 48 r1]) okX8_joined rfl rfl rfl rfl rfl rfl (jstp_virtual (sa := [vR 48 r1]) (st := []) (k := 0) rfl rfl sX8_joined okX8_joined g_95 (one41.k g_95) rfl rfl) w (fun v_98 h_96 _ _ _ w => ?_)
                        exact jw_areturn rfl rfl rfl rfl rfl w
                      · rw [jsw_miss c_94]
                        replace w := w.2
                        by_cases c_99 : (jfi h 305 r1) = (11 : Int32)
                        · rw [jsw_hit c_99]
                          replace w := w.1 c_99
                          refine jw_aload_n (pc' := 333) rfl rfl ?_
                          refine jw_aload_n (pc' := 334) rfl rfl ?_
                          obtain ⟨g_100, w⟩ := w
                          refine jw_cR (st := []) (sa := [vR 41 r0, vR 48 r1]) okX8_joined rfl rfl rfl rfl rfl rfl (jstp_virtual (sa := [vR 48 r1]) (st := []) (k := 0) rfl rfl sX8_joined okX8_joined g_100 (one41.k g_100) rfl rfl) w (fun v_103 h_101 _ _ _ w => ?_)
                          exact jw_areturn rfl rfl rfl rfl rfl w
                        · rw [jsw_miss c_99]
                          replace w := w.2
                          by_cases c_104 : (jfi h 305 r1) = (12 : Int32)
                          · rw [jsw_hit c_104]
                            replace w := w.1 c_104
                            refine jw_aload_n (pc' := 339) rfl rfl ?_
                            refine jw_aload_n (pc' := 340) rfl rfl ?_
                            refine jw_aload_n (pc' := 341) rfl rfl ?_
                            refine jw_getR (pc' := 344) (F := 310) (t' := 215) rfl rfl rfl rfl rfl g_1 ?_
                            refine jw_iconst (pc' := 345) (x := (0 : Int32)) rfl rfl ?_
                            obtain ⟨g_105, w⟩ := w
                            obtain ⟨g_106, w⟩ := w
                            refine jw_aald (pc' := 346) (t' := 48) rfl rfl rfl rfl g_105 g_106.ix g_106.2 ?_
                            obtain ⟨g_107, w⟩ := w
                            refine jw_cR (st := [vR 41 r0]) (sa := [vR 41 r0, vR 48 (jar h (jfr h 310 r1) (ixn (0 : Int32)))]) okX8_eval rfl rfl rfl rfl rfl rfl (jstp_virtual (sa := [vR 48 (jar h (jfr h 310 r1) (ixn (0 : Int32)))]) (st := [vR 41 r0]) (k := 0) rfl rfl sX8_eval okX8_eval g_107 (one41.k g_107) rfl rfl) w (fun v_110 h_108 _ _ _ w => ?_)
                            refine jw_cR (st := []) (sa := [vR 41 r0, vR 46 v_110]) okX8_turned rfl rfl rfl rfl rfl rfl (jstp_virtual (sa := [vR 46 v_110]) (st := []) (k := 0) rfl rfl sX8_turned okX8_turned g_107 (one41.k g_107) rfl rfl) w (fun v_113 h_111 _ _ _ w => ?_)
                            exact jw_areturn rfl rfl rfl rfl rfl w
                          · rw [jsw_miss c_104]
                            replace w := w.2
                            by_cases c_114 : (jfi h 305 r1) = (13 : Int32)
                            · rw [jsw_hit c_114]
                              replace w := w.1 c_114
                              refine jw_aload_n (pc' := 354) rfl rfl ?_
                              refine jw_aload_n (pc' := 355) rfl rfl ?_
                              refine jw_getR (pc' := 358) (F := 310) (t' := 215) rfl rfl rfl rfl rfl g_1 ?_
                              refine jw_iconst (pc' := 359) (x := (0 : Int32)) rfl rfl ?_
                              obtain ⟨g_115, w⟩ := w
                              obtain ⟨g_116, w⟩ := w
                              refine jw_aald (pc' := 360) (t' := 48) rfl rfl rfl rfl g_115 g_116.ix g_116.2 ?_
                              obtain ⟨g_117, w⟩ := w
                              refine jw_cR (st := []) (sa := [vR 41 r0, vR 48 (jar h (jfr h 310 r1) (ixn (0 : Int32)))]) okX8_eval rfl rfl rfl rfl rfl rfl (jstp_virtual (sa := [vR 48 (jar h (jfr h 310 r1) (ixn (0 : Int32)))]) (st := []) (k := 0) rfl rfl sX8_eval okX8_eval g_117 (one41.k g_117) rfl rfl) w (fun v_120 h_118 _ _ _ w => ?_)
                              refine jw_astore (pc' := 365) (ls' := [some (vR 41 r0), some (vR 48 r1), none, none, none, some (vR 46 v_120), none]) rfl (by decide) rfl ?_
                              refine jw_aload (pc' := 367) rfl rfl ?_
                              obtain ⟨g_121, w⟩ := w
                              refine jw_getI (pc' := 370) (F := 266) rfl rfl rfl rfl g_121 ?_
                              refine jw_if_ne (tgt := 378) (pc' := 373) rfl rfl (fun c_122 => ?_) (fun c_122 => ?_)
                              · replace w := w.1 c_122
                                refine jw_aload_n (pc' := 379) rfl rfl ?_
                                refine jw_aload (pc' := 381) rfl rfl ?_
                                refine jw_getL (pc' := 384) (F := 267) rfl rfl rfl rfl g_121 ?_
                                refine jw_lneg (pc' := 385) rfl ?_
                                refine jw_cR (st := []) (sa := [vR 41 r0, vL (-(jfl h_118 267 v_120))]) okX8_number rfl rfl rfl rfl rfl rfl (jstp_virtual (sa := [vL (-(jfl h_118 267 v_120))]) (st := []) (k := 0) rfl rfl sX8_number okX8_number g_117 (one41.k g_117) rfl rfl) w (fun v_125 h_123 _ _ _ w => ?_)
                                refine jw_gen (ls' := [none, none, none, none, none, none, none]) (st' := [vR 46 v_125]) (trivial) (And.intro (Or.inl rfl) (trivial)) ?_
                                exact w_X8_eval_388 w
                              · replace w := w.2 c_122
                                refine jw_aload (pc' := 375) rfl rfl ?_
                                refine jw_goto (pc' := 388) rfl rfl ?_
                                refine jw_gen (ls' := [none, none, none, none, none, none, none]) (st' := [vR 46 v_120]) (trivial) (And.intro (Or.inl rfl) (trivial)) ?_
                                exact w_X8_eval_388 w
                            · rw [jsw_miss c_114]
                              replace w := w.2
                              rw [jsw_nil]
                              replace w := w c_2 c_3 c_7 c_22 c_35 c_40 c_45 c_65 c_70 c_79 c_94 c_99 c_104 c_114
                              refine jw_aload_n (pc' := 390) rfl rfl ?_
                              refine jw_aload_n (pc' := 391) rfl rfl ?_
                              refine jw_getR (pc' := 394) (F := 310) (t' := 215) rfl rfl rfl rfl rfl g_1 ?_
                              refine jw_iconst (pc' := 395) (x := (0 : Int32)) rfl rfl ?_
                              obtain ⟨g_126, w⟩ := w
                              obtain ⟨g_127, w⟩ := w
                              refine jw_aald (pc' := 396) (t' := 48) rfl rfl rfl rfl g_126 g_127.ix g_127.2 ?_
                              obtain ⟨g_128, w⟩ := w
                              refine jw_cR (st := []) (sa := [vR 41 r0, vR 48 (jar h (jfr h 310 r1) (ixn (0 : Int32)))]) okX8_eval rfl rfl rfl rfl rfl rfl (jstp_virtual (sa := [vR 48 (jar h (jfr h 310 r1) (ixn (0 : Int32)))]) (st := []) (k := 0) rfl rfl sX8_eval okX8_eval g_128 (one41.k g_128) rfl rfl) w (fun v_131 h_129 _ _ _ w => ?_)
                              refine jw_astore (pc' := 401) (ls' := [some (vR 41 r0), some (vR 48 r1), none, none, none, none, some (vR 46 v_131)]) rfl (by decide) rfl ?_
                              refine jw_aload_n (pc' := 402) rfl rfl ?_
                              refine jw_aload_n (pc' := 403) rfl rfl ?_
                              refine jw_getI (pc' := 406) (F := 306) rfl rfl rfl rfl g_1 ?_
                              refine jw_aload (pc' := 408) rfl rfl ?_
                              refine jw_aload_n (pc' := 409) rfl rfl ?_
                              refine jw_aload_n (pc' := 410) rfl rfl ?_
                              refine jw_getR (pc' := 413) (F := 310) (t' := 215) rfl rfl rfl rfl rfl g_1 ?_
                              refine jw_iconst (pc' := 414) (x := (1 : Int32)) rfl rfl ?_
                              obtain ⟨g_132, w⟩ := w
                              obtain ⟨g_133, w⟩ := w
                              refine jw_aald (pc' := 415) (t' := 48) rfl rfl rfl rfl g_132 g_133.ix g_133.2 ?_
                              refine jw_cR (st := [vR 46 v_131, vI (jfi h_129 306 r1), vR 41 r0]) (sa := [vR 41 r0, vR 48 (jar h_129 (jfr h_129 310 r1) (ixn (1 : Int32)))]) okX8_eval rfl rfl rfl rfl rfl rfl (jstp_virtual (sa := [vR 48 (jar h_129 (jfr h_129 310 r1) (ixn (1 : Int32)))]) (st := [vR 46 v_131, vI (jfi h_129 306 r1), vR 41 r0]) (k := 0) rfl rfl sX8_eval okX8_eval g_128 (one41.k g_128) rfl rfl) w (fun v_136 h_134 _ _ _ w => ?_)
                              refine jw_cR (st := []) (sa := [vR 41 r0, vI (jfi h_129 306 r1), vR 46 v_131, vR 46 v_136]) okX8_worked rfl rfl rfl rfl rfl rfl (jstp_virtual (sa := [vI (jfi h_129 306 r1), vR 46 v_131, vR 46 v_136]) (st := []) (k := 0) rfl rfl sX8_worked okX8_worked g_128 (one41.k g_128) rfl rfl) w (fun v_139 h_137 _ _ _ w => ?_)
                              exact jw_areturn rfl rfl rfl rfl rfl w
def T_X8_eval (D : JD) (d : Nat) (Q : JO → JH → Prop) (r0 : Nat) (r1 : Nat) (h : JH) : Prop := W_X8_eval_0 D d Q r0 r1 h
theorem t_X8_eval {D : JD} {d : Nat} {Q : JO → JH → Prop} {r0 : Nat} {r1 : Nat} {h : JH} (w : T_X8_eval D d Q r0 r1 h) : cX8_eval D (d + 1) r0 r1 h Q := by
  unfold T_X8_eval at w
  unfold cX8_eval
  exact w_X8_eval_0 w
def W_X8_gather_258 (D : JD) (d : Nat) (Q : JO → JH → Prop) (K43 : Nat → Nat → Int64 → Nat → Int32 → Int32 → Int32 → Int32 → Int32 → JH → Prop) (r0 : Nat) (r1 : Nat) (y2 : Int64) (r4 : Nat) (x5 : Int32) (x6 : Int32) (x7 : Int32) (x8 : Int32) (x9 : Int32) (h : JH) : Prop :=
  K43 r0 r1 y2 r4 x5 x6 x7 x8 (x9 + (1 : Int32)) h
theorem w_X8_gather_258 {D : JD} {d : Nat} {Q : JO → JH → Prop} {K43 : Nat → Nat → Int64 → Nat → Int32 → Int32 → Int32 → Int32 → Int32 → JH → Prop} {r0 : Nat} {r1 : Nat} {y2 : Int64} {r4 : Nat} {x5 : Int32} {x6 : Int32} {x7 : Int32} {x8 : Int32} {x9 : Int32} {h : JH} (hK43 : ∀ (r0 : Nat) (r1 : Nat) (y2 : Int64) (r4 : Nat) (x5 : Int32) (x6 : Int32) (x7 : Int32) (x8 : Int32) (x9 : Int32) (h : JH), K43 r0 r1 y2 r4 x5 x6 x7 x8 x9 h → JW D (d + 1) mX8_gather 43 [some (vR 41 r0), some (vR 48 r1), some (vL y2), none, some (vR 46 r4), some (vI x5), some (vI x6), some (vI x7), some (vI x8), some (vI x9), none, none] [] h Q) (w : W_X8_gather_258 D d Q K43 r0 r1 y2 r4 x5 x6 x7 x8 x9 h) : JW D (d + 1) mX8_gather 258 [some (vR 41 r0), some (vR 48 r1), some (vL y2), none, some (vR 46 r4), some (vI x5), some (vI x6), some (vI x7), some (vI x8), some (vI x9), none, none] [] h Q := by
  unfold W_X8_gather_258 at w
  refine jw_iinc (pc' := 261) (y := x9 + (1 : Int32)) (ls' := [some (vR 41 r0), some (vR 48 r1), some (vL y2), none, some (vR 46 r4), some (vI x5), some (vI x6), some (vI x7), some (vI x8), some (vI (x9 + (1 : Int32))), none, none]) rfl (by decide) rfl rfl rfl ?_
  refine jw_goto (pc' := 43) rfl rfl ?_
  exact hK43 _ _ _ _ _ _ _ _ _ _ w
def W_X8_gather_252 (D : JD) (d : Nat) (Q : JO → JH → Prop) (K43 : Nat → Nat → Int64 → Nat → Int32 → Int32 → Int32 → Int32 → Int32 → JH → Prop) (r0 : Nat) (r1 : Nat) (y2 : Int64) (r4 : Nat) (x5 : Int32) (x6 : Int32) (x7 : Int32) (x8 : Int32) (x9 : Int32) (x10 : Int32) (h : JH) : Prop :=
  r0 ≠ 0 ∧ ∀ h_2 : JH, h_2 = wfi h 177 r0 x10 → (W_X8_gather_258 D d Q K43 r0 r1 y2 r4 x5 x6 x7 x8 x9 h_2)
theorem w_X8_gather_252 {D : JD} {d : Nat} {Q : JO → JH → Prop} {K43 : Nat → Nat → Int64 → Nat → Int32 → Int32 → Int32 → Int32 → Int32 → JH → Prop} {r0 : Nat} {r1 : Nat} {y2 : Int64} {r4 : Nat} {x5 : Int32} {x6 : Int32} {x7 : Int32} {x8 : Int32} {x9 : Int32} {x10 : Int32} {h : JH} (hK43 : ∀ (r0 : Nat) (r1 : Nat) (y2 : Int64) (r4 : Nat) (x5 : Int32) (x6 : Int32) (x7 : Int32) (x8 : Int32) (x9 : Int32) (h : JH), K43 r0 r1 y2 r4 x5 x6 x7 x8 x9 h → JW D (d + 1) mX8_gather 43 [some (vR 41 r0), some (vR 48 r1), some (vL y2), none, some (vR 46 r4), some (vI x5), some (vI x6), some (vI x7), some (vI x8), some (vI x9), none, none] [] h Q) (w : W_X8_gather_252 D d Q K43 r0 r1 y2 r4 x5 x6 x7 x8 x9 x10 h) : JW D (d + 1) mX8_gather 252 [some (vR 41 r0), some (vR 48 r1), some (vL y2), none, some (vR 46 r4), some (vI x5), some (vI x6), some (vI x7), some (vI x8), some (vI x9), some (vI x10), none] [] h Q := by
  unfold W_X8_gather_252 at w
  refine jw_aload_n (pc' := 253) rfl rfl ?_
  refine jw_iload (pc' := 255) rfl rfl ?_
  obtain ⟨g_1, w⟩ := w
  refine jw_putI' (pc' := 258) (F := 177) rfl rfl rfl (Or.inr rfl) (Or.inl rfl) rfl (rfl) (rfl) rfl g_1 (fun h_2 e_3 => ?_)
  replace w := w h_2 e_3
  refine jw_gen (ls' := [some (vR 41 r0), some (vR 48 r1), some (vL y2), none, some (vR 46 r4), some (vI x5), some (vI x6), some (vI x7), some (vI x8), some (vI x9), none, none]) (st' := []) (And.intro (Or.inl rfl) (And.intro (Or.inl rfl) (And.intro (Or.inl rfl) (And.intro (Or.inl rfl) (And.intro (Or.inl rfl) (And.intro (Or.inl rfl) (And.intro (Or.inl rfl) (And.intro (Or.inl rfl) (And.intro (Or.inl rfl) (trivial)))))))))) (trivial) ?_
  exact w_X8_gather_258 hK43 w
def W_X8_gather_245 (D : JD) (d : Nat) (Q : JO → JH → Prop) (K43 : Nat → Nat → Int64 → Nat → Int32 → Int32 → Int32 → Int32 → Int32 → JH → Prop) (r0 : Nat) (r1 : Nat) (y2 : Int64) (r4 : Nat) (x5 : Int32) (x6 : Int32) (x7 : Int32) (x8 : Int32) (x9 : Int32) (x10 : Int32) (r11 : Nat) (h : JH) : Prop :=
  r4 ≠ 0 ∧ (cX13_take D d r4 r11 h (pV D h (fun h_2 => W_X8_gather_252 D d Q K43 r0 r1 y2 r4 x5 x6 x7 x8 x9 x10 h_2) (jth Q)))
theorem w_X8_gather_245 {D : JD} {d : Nat} {Q : JO → JH → Prop} {K43 : Nat → Nat → Int64 → Nat → Int32 → Int32 → Int32 → Int32 → Int32 → JH → Prop} {r0 : Nat} {r1 : Nat} {y2 : Int64} {r4 : Nat} {x5 : Int32} {x6 : Int32} {x7 : Int32} {x8 : Int32} {x9 : Int32} {x10 : Int32} {r11 : Nat} {h : JH} (hK43 : ∀ (r0 : Nat) (r1 : Nat) (y2 : Int64) (r4 : Nat) (x5 : Int32) (x6 : Int32) (x7 : Int32) (x8 : Int32) (x9 : Int32) (h : JH), K43 r0 r1 y2 r4 x5 x6 x7 x8 x9 h → JW D (d + 1) mX8_gather 43 [some (vR 41 r0), some (vR 48 r1), some (vL y2), none, some (vR 46 r4), some (vI x5), some (vI x6), some (vI x7), some (vI x8), some (vI x9), none, none] [] h Q) (w : W_X8_gather_245 D d Q K43 r0 r1 y2 r4 x5 x6 x7 x8 x9 x10 r11 h) : JW D (d + 1) mX8_gather 245 [some (vR 41 r0), some (vR 48 r1), some (vL y2), none, some (vR 46 r4), some (vI x5), some (vI x6), some (vI x7), some (vI x8), some (vI x9), some (vI x10), some (vR 46 r11)] [] h Q := by
  unfold W_X8_gather_245 at w
  refine jw_aload (pc' := 247) rfl rfl ?_
  refine jw_aload (pc' := 249) rfl rfl ?_
  obtain ⟨g_1, w⟩ := w
  refine jw_cV (st := []) (sa := [vR 46 r4, vR 46 r11]) okX13_take rfl rfl rfl rfl rfl rfl (jstp_virtual (sa := [vR 46 r11]) (st := []) (k := 0) rfl rfl sX13_take okX13_take g_1 (one46.k g_1) rfl rfl) w (fun h_2 _ _ w => ?_)
  refine jw_gen (ls' := [some (vR 41 r0), some (vR 48 r1), some (vL y2), none, some (vR 46 r4), some (vI x5), some (vI x6), some (vI x7), some (vI x8), some (vI x9), some (vI x10), none]) (st' := []) (And.intro (Or.inl rfl) (And.intro (Or.inl rfl) (And.intro (Or.inl rfl) (And.intro (Or.inl rfl) (And.intro (Or.inl rfl) (And.intro (Or.inl rfl) (And.intro (Or.inl rfl) (And.intro (Or.inl rfl) (And.intro (Or.inl rfl) (And.intro (Or.inl rfl) (trivial))))))))))) (trivial) ?_
  exact w_X8_gather_252 hK43 w
def W_X8_gather_190 (D : JD) (d : Nat) (Q : JO → JH → Prop) (K43 : Nat → Nat → Int64 → Nat → Int32 → Int32 → Int32 → Int32 → Int32 → JH → Prop) (r0 : Nat) (r1 : Nat) (y2 : Int64) (r4 : Nat) (x5 : Int32) (x6 : Int32) (x7 : Int32) (x8 : Int32) (x9 : Int32) (x10 : Int32) (r11 : Nat) (h : JH) : Prop :=
  ((lg_cmp y2 (1 : Int64)) = 0 → W_X8_gather_245 D d Q K43 r0 r1 y2 r4 x5 x6 x7 x8 x9 x10 r11 h) ∧ (¬ (lg_cmp y2 (1 : Int64)) = 0 → r1 ≠ 0 ∧ ((jfr h 307 r1) ≠ 0 ∧ (cJ5_equals D d (jfr h 307 r1) (jcs D 307) h (pI D h (fun v_6 h_4 => (v_6 = 0 → (jfr h_4 307 r1) ≠ 0 ∧ (cJ5_equals D d (jfr h_4 307 r1) (jcs D 308) h_4 (pI D h_4 (fun v_11 h_9 => (v_11 = 0 → W_X8_gather_252 D d Q K43 r0 r1 y2 r4 x5 x6 x7 x8 x9 x10 h_9) ∧ (¬ v_11 = 0 → cX8_compare D d r11 r4 h_9 (pI D h_9 (fun v_15 h_13 => (v_15 ≤ 0 → W_X8_gather_252 D d Q K43 r0 r1 y2 r4 x5 x6 x7 x8 x9 x10 h_13) ∧ (¬ v_15 ≤ 0 → W_X8_gather_245 D d Q K43 r0 r1 y2 r4 x5 x6 x7 x8 x9 x10 r11 h_13)) (jth Q)))) (jth Q)))) ∧ (¬ v_6 = 0 → cX8_compare D d r11 r4 h_4 (pI D h_4 (fun v_19 h_17 => (0 ≤ v_19 → W_X8_gather_252 D d Q K43 r0 r1 y2 r4 x5 x6 x7 x8 x9 x10 h_17) ∧ (¬ 0 ≤ v_19 → W_X8_gather_245 D d Q K43 r0 r1 y2 r4 x5 x6 x7 x8 x9 x10 r11 h_17)) (jth Q)))) (jth Q)))))
theorem w_X8_gather_190 {D : JD} {d : Nat} {Q : JO → JH → Prop} {K43 : Nat → Nat → Int64 → Nat → Int32 → Int32 → Int32 → Int32 → Int32 → JH → Prop} {r0 : Nat} {r1 : Nat} {y2 : Int64} {r4 : Nat} {x5 : Int32} {x6 : Int32} {x7 : Int32} {x8 : Int32} {x9 : Int32} {x10 : Int32} {r11 : Nat} {h : JH} (hK43 : ∀ (r0 : Nat) (r1 : Nat) (y2 : Int64) (r4 : Nat) (x5 : Int32) (x6 : Int32) (x7 : Int32) (x8 : Int32) (x9 : Int32) (h : JH), K43 r0 r1 y2 r4 x5 x6 x7 x8 x9 h → JW D (d + 1) mX8_gather 43 [some (vR 41 r0), some (vR 48 r1), some (vL y2), none, some (vR 46 r4), some (vI x5), some (vI x6), some (vI x7), some (vI x8), some (vI x9), none, none] [] h Q) (w : W_X8_gather_190 D d Q K43 r0 r1 y2 r4 x5 x6 x7 x8 x9 x10 r11 h) : JW D (d + 1) mX8_gather 190 [some (vR 41 r0), some (vR 48 r1), some (vL y2), none, some (vR 46 r4), some (vI x5), some (vI x6), some (vI x7), some (vI x8), some (vI x9), some (vI x10), some (vR 46 r11)] [] h Q := by
  unfold W_X8_gather_190 at w
  refine jw_lload_n (pc' := 191) rfl rfl ?_
  refine jw_lconst (pc' := 192) (x := (1 : Int64)) rfl rfl ?_
  refine jw_lcmp (pc' := 193) rfl ?_
  refine jw_if_eq (tgt := 245) (pc' := 196) rfl rfl (fun c_1 => ?_) (fun c_1 => ?_)
  · replace w := w.1 c_1
    exact w_X8_gather_245 hK43 w
  · replace w := w.2 c_1
    refine jw_aload_n (pc' := 197) rfl rfl ?_
    obtain ⟨g_2, w⟩ := w
    refine jw_getR (pc' := 200) (F := 307) (t' := 64) rfl rfl rfl rfl rfl g_2 ?_
    refine jw_ldcwS (pc' := 203) rfl rfl rfl rfl ?_
    obtain ⟨g_3, w⟩ := w
    refine jw_cI (st := []) (sa := [vR 64 (jfr h 307 r1), vR 51 (jcs D 307)]) okJ5_equals rfl rfl rfl rfl rfl rfl (jstp_virtual (sa := [vR 51 (jcs D 307)]) (st := []) (k := 0) rfl rfl sJ5_equals okJ5_equals g_3 (one64.k g_3) rfl rfl) w (fun v_6 h_4 _ _ w => ?_)
    refine jw_if_eq (tgt := 222) (pc' := 209) rfl rfl (fun c_7 => ?_) (fun c_7 => ?_)
    · replace w := w.1 c_7
      refine jw_aload_n (pc' := 223) rfl rfl ?_
      refine jw_getR (pc' := 226) (F := 307) (t' := 64) rfl rfl rfl rfl rfl g_2 ?_
      refine jw_ldcwS (pc' := 229) rfl rfl rfl rfl ?_
      obtain ⟨g_8, w⟩ := w
      refine jw_cI (st := []) (sa := [vR 64 (jfr h_4 307 r1), vR 51 (jcs D 308)]) okJ5_equals rfl rfl rfl rfl rfl rfl (jstp_virtual (sa := [vR 51 (jcs D 308)]) (st := []) (k := 0) rfl rfl sJ5_equals okJ5_equals g_8 (one64.k g_8) rfl rfl) w (fun v_11 h_9 _ _ w => ?_)
      refine jw_if_eq (tgt := 252) (pc' := 235) rfl rfl (fun c_12 => ?_) (fun c_12 => ?_)
      · replace w := w.1 c_12
        refine jw_gen (ls' := [some (vR 41 r0), some (vR 48 r1), some (vL y2), none, some (vR 46 r4), some (vI x5), some (vI x6), some (vI x7), some (vI x8), some (vI x9), some (vI x10), none]) (st' := []) (And.intro (Or.inl rfl) (And.intro (Or.inl rfl) (And.intro (Or.inl rfl) (And.intro (Or.inl rfl) (And.intro (Or.inl rfl) (And.intro (Or.inl rfl) (And.intro (Or.inl rfl) (And.intro (Or.inl rfl) (And.intro (Or.inl rfl) (And.intro (Or.inl rfl) (trivial))))))))))) (trivial) ?_
        exact w_X8_gather_252 hK43 w
      · replace w := w.2 c_12
        refine jw_aload (pc' := 237) rfl rfl ?_
        refine jw_aload (pc' := 239) rfl rfl ?_
        refine jw_cI (st := []) (sa := [vR 46 r11, vR 46 r4]) okX8_compare rfl rfl rfl rfl rfl rfl (jstp_static (sa := [vR 46 r11, vR 46 r4]) (st := []) rfl rfl sX8_compare okX8_compare rfl rfl) w (fun v_15 h_13 _ _ w => ?_)
        refine jw_if_le (tgt := 252) (pc' := 245) rfl rfl (fun c_16 => ?_) (fun c_16 => ?_)
        · replace w := w.1 c_16
          refine jw_gen (ls' := [some (vR 41 r0), some (vR 48 r1), some (vL y2), none, some (vR 46 r4), some (vI x5), some (vI x6), some (vI x7), some (vI x8), some (vI x9), some (vI x10), none]) (st' := []) (And.intro (Or.inl rfl) (And.intro (Or.inl rfl) (And.intro (Or.inl rfl) (And.intro (Or.inl rfl) (And.intro (Or.inl rfl) (And.intro (Or.inl rfl) (And.intro (Or.inl rfl) (And.intro (Or.inl rfl) (And.intro (Or.inl rfl) (And.intro (Or.inl rfl) (trivial))))))))))) (trivial) ?_
          exact w_X8_gather_252 hK43 w
        · replace w := w.2 c_16
          exact w_X8_gather_245 hK43 w
    · replace w := w.2 c_7
      refine jw_aload (pc' := 211) rfl rfl ?_
      refine jw_aload (pc' := 213) rfl rfl ?_
      refine jw_cI (st := []) (sa := [vR 46 r11, vR 46 r4]) okX8_compare rfl rfl rfl rfl rfl rfl (jstp_static (sa := [vR 46 r11, vR 46 r4]) (st := []) rfl rfl sX8_compare okX8_compare rfl rfl) w (fun v_19 h_17 _ _ w => ?_)
      refine jw_if_ge (tgt := 252) (pc' := 219) rfl rfl (fun c_20 => ?_) (fun c_20 => ?_)
      · replace w := w.1 c_20
        refine jw_gen (ls' := [some (vR 41 r0), some (vR 48 r1), some (vL y2), none, some (vR 46 r4), some (vI x5), some (vI x6), some (vI x7), some (vI x8), some (vI x9), some (vI x10), none]) (st' := []) (And.intro (Or.inl rfl) (And.intro (Or.inl rfl) (And.intro (Or.inl rfl) (And.intro (Or.inl rfl) (And.intro (Or.inl rfl) (And.intro (Or.inl rfl) (And.intro (Or.inl rfl) (And.intro (Or.inl rfl) (And.intro (Or.inl rfl) (And.intro (Or.inl rfl) (trivial))))))))))) (trivial) ?_
        exact w_X8_gather_252 hK43 w
      · replace w := w.2 c_20
        refine jw_goto (pc' := 245) rfl rfl ?_
        exact w_X8_gather_245 hK43 w
def W_X8_gather_182 (D : JD) (d : Nat) (Q : JO → JH → Prop) (K43 : Nat → Nat → Int64 → Nat → Int32 → Int32 → Int32 → Int32 → Int32 → JH → Prop) (r0 : Nat) (r1 : Nat) (y2 : Int64) (r4 : Nat) (x5 : Int32) (x6 : Int32) (x7 : Int32) (x8 : Int32) (x9 : Int32) (x10 : Int32) (q0 : Nat) (s1 : Int32) (h : JH) : Prop :=
  q0 ≠ 0 ∧ (cX8_must D d q0 s1 (jcs D 324) h (pV D h (fun h_2 => W_X8_gather_252 D d Q K43 r0 r1 y2 r4 x5 x6 x7 x8 x9 x10 h_2) (jth Q)))
theorem w_X8_gather_182 {D : JD} {d : Nat} {Q : JO → JH → Prop} {K43 : Nat → Nat → Int64 → Nat → Int32 → Int32 → Int32 → Int32 → Int32 → JH → Prop} {r0 : Nat} {r1 : Nat} {y2 : Int64} {r4 : Nat} {x5 : Int32} {x6 : Int32} {x7 : Int32} {x8 : Int32} {x9 : Int32} {x10 : Int32} {q0 : Nat} {s1 : Int32} {h : JH} (hK43 : ∀ (r0 : Nat) (r1 : Nat) (y2 : Int64) (r4 : Nat) (x5 : Int32) (x6 : Int32) (x7 : Int32) (x8 : Int32) (x9 : Int32) (h : JH), K43 r0 r1 y2 r4 x5 x6 x7 x8 x9 h → JW D (d + 1) mX8_gather 43 [some (vR 41 r0), some (vR 48 r1), some (vL y2), none, some (vR 46 r4), some (vI x5), some (vI x6), some (vI x7), some (vI x8), some (vI x9), none, none] [] h Q) (w : W_X8_gather_182 D d Q K43 r0 r1 y2 r4 x5 x6 x7 x8 x9 x10 q0 s1 h) : JW D (d + 1) mX8_gather 182 [some (vR 41 r0), some (vR 48 r1), some (vL y2), none, some (vR 46 r4), some (vI x5), some (vI x6), some (vI x7), some (vI x8), some (vI x9), some (vI x10), none] [vI s1, vR 41 q0] h Q := by
  unfold W_X8_gather_182 at w
  refine jw_ldcS (pc' := 184) rfl rfl rfl rfl ?_
  obtain ⟨g_1, w⟩ := w
  refine jw_cV (st := []) (sa := [vR 41 q0, vI s1, vR 51 (jcs D 324)]) okX8_must rfl rfl rfl rfl rfl rfl (jstp_virtual (sa := [vI s1, vR 51 (jcs D 324)]) (st := []) (k := 0) rfl rfl sX8_must okX8_must g_1 (one41.k g_1) rfl rfl) w (fun h_2 _ _ w => ?_)
  refine jw_goto (pc' := 252) rfl rfl ?_
  exact w_X8_gather_252 hK43 w
def W_X8_gather_181 (D : JD) (d : Nat) (Q : JO → JH → Prop) (K43 : Nat → Nat → Int64 → Nat → Int32 → Int32 → Int32 → Int32 → Int32 → JH → Prop) (r0 : Nat) (r1 : Nat) (y2 : Int64) (r4 : Nat) (x5 : Int32) (x6 : Int32) (x7 : Int32) (x8 : Int32) (x9 : Int32) (x10 : Int32) (q0 : Nat) (h : JH) : Prop :=
  W_X8_gather_182 D d Q K43 r0 r1 y2 r4 x5 x6 x7 x8 x9 x10 q0 (0 : Int32) h
theorem w_X8_gather_181 {D : JD} {d : Nat} {Q : JO → JH → Prop} {K43 : Nat → Nat → Int64 → Nat → Int32 → Int32 → Int32 → Int32 → Int32 → JH → Prop} {r0 : Nat} {r1 : Nat} {y2 : Int64} {r4 : Nat} {x5 : Int32} {x6 : Int32} {x7 : Int32} {x8 : Int32} {x9 : Int32} {x10 : Int32} {q0 : Nat} {h : JH} (hK43 : ∀ (r0 : Nat) (r1 : Nat) (y2 : Int64) (r4 : Nat) (x5 : Int32) (x6 : Int32) (x7 : Int32) (x8 : Int32) (x9 : Int32) (h : JH), K43 r0 r1 y2 r4 x5 x6 x7 x8 x9 h → JW D (d + 1) mX8_gather 43 [some (vR 41 r0), some (vR 48 r1), some (vL y2), none, some (vR 46 r4), some (vI x5), some (vI x6), some (vI x7), some (vI x8), some (vI x9), none, none] [] h Q) (w : W_X8_gather_181 D d Q K43 r0 r1 y2 r4 x5 x6 x7 x8 x9 x10 q0 h) : JW D (d + 1) mX8_gather 181 [some (vR 41 r0), some (vR 48 r1), some (vL y2), none, some (vR 46 r4), some (vI x5), some (vI x6), some (vI x7), some (vI x8), some (vI x9), some (vI x10), none] [vR 41 q0] h Q := by
  unfold W_X8_gather_181 at w
  refine jw_iconst (pc' := 182) (x := (0 : Int32)) rfl rfl ?_
  exact w_X8_gather_182 hK43 w
def W_X8_gather_43 (D : JD) (d : Nat) (Q : JO → JH → Prop) (K43 : Nat → Nat → Int64 → Nat → Int32 → Int32 → Int32 → Int32 → Int32 → JH → Prop) (r0 : Nat) (r1 : Nat) (y2 : Int64) (r4 : Nat) (x5 : Int32) (x6 : Int32) (x7 : Int32) (x8 : Int32) (x9 : Int32) (h : JH) : Prop :=
  r0 ≠ 0 ∧ (((jfi h 209 r0) ≤ x9 → (jfr h 204 r0) ≠ 0 ∧ jin (0 : Int32) (jln h (jfr h 204 r0)) ∧ ∀ h_5 : JH, h_5 = wai h (jfr h 204 r0) (ixn (0 : Int32)) x5 → ((jfr h_5 204 r0) ≠ 0 ∧ jin (1 : Int32) (jln h_5 (jfr h_5 204 r0)) ∧ ∀ h_9 : JH, h_9 = wai h_5 (jfr h_5 204 r0) (ixn (1 : Int32)) x6 → ((jfr h_9 204 r0) ≠ 0 ∧ jin (2 : Int32) (jln h_9 (jfr h_9 204 r0)) ∧ ∀ h_13 : JH, h_13 = wai h_9 (jfr h_9 204 r0) (ixn (2 : Int32)) x7 → (r1 ≠ 0 ∧ ((jfr h_13 307 r1) ≠ 0 ∧ (cJ5_equals D d (jfr h_13 307 r1) (jcs D 305) h_13 (pI D h_13 (fun v_19 h_17 => (v_19 = 0 → Q (.inl (some (vR 46 r4))) h_17) ∧ (¬ v_19 = 0 → cX8_number D d r0 y2 h_17 (pR D h_17 46 (fun v_23 h_21 => Q (.inl (some (vR 46 v_23))) h_21) (jth Q)))) (jth Q)))))))) ∧ (¬ (jfi h 209 r0) ≤ x9 → (jfr h 210 r0) ≠ 0 ∧ jin x9 (jln h (jfr h 210 r0)) ∧ (((jai h (jfr h 210 r0) (ixn x9)) = x8 → r1 ≠ 0 ∧ ((¬ (jfi h 306 r1) = (1 : Int32) → cX8_useRow D d r0 x9 h (pV D h (fun h_29 => (jfr h_29 310 r1) ≠ 0 ∧ jin (0 : Int32) (jln h_29 (jfr h_29 310 r1)) ∧ (cX8_eval D d r0 (jar h_29 (jfr h_29 310 r1) (ixn (0 : Int32))) h_29 (pR D h_29 46 (fun v_36 h_34 => v_36 ≠ 0 ∧ (((jfi h_34 266 v_36) = 0 → W_X8_gather_252 D d Q K43 r0 r1 y2 r4 x5 x6 x7 x8 x9 (jfi h_29 177 r0) h_34) ∧ (¬ (jfi h_34 266 v_36) = 0 → ((lg_cmp (y2 + (1 : Int64)) (1 : Int64)) ≤ 0 → W_X8_gather_190 D d Q K43 r0 r1 (y2 + (1 : Int64)) r4 x5 x6 x7 x8 x9 (jfi h_29 177 r0) v_36 h_34) ∧ (¬ (lg_cmp (y2 + (1 : Int64)) (1 : Int64)) ≤ 0 → (jfr h_34 307 r1) ≠ 0 ∧ (cJ5_equals D d (jfr h_34 307 r1) (jcs D 306) h_34 (pI D h_34 (fun v_43 h_41 => (v_43 = 0 → W_X8_gather_190 D d Q K43 r0 r1 (y2 + (1 : Int64)) r4 x5 x6 x7 x8 x9 (jfi h_29 177 r0) v_36 h_41) ∧ (¬ v_43 = 0 → r4 ≠ 0 ∧ (∀ h_46 : JH, h_46 = wfl h_41 267 r4 ((jfl h_41 267 r4) + (jfl h_41 267 v_36)) → ((0 < (lg_cmp (jfl h_46 267 r4) (9007199254740991 : Int64)) → W_X8_gather_181 D d Q K43 r0 r1 (y2 + (1 : Int64)) r4 x5 x6 x7 x8 x9 (jfi h_29 177 r0) r0 h_46) ∧ (¬ 0 < (lg_cmp (jfl h_46 267 r4) (9007199254740991 : Int64)) → ((lg_cmp (jfl h_46 267 r4) (-9007199254740991 : Int64)) < 0 → W_X8_gather_181 D d Q K43 r0 r1 (y2 + (1 : Int64)) r4 x5 x6 x7 x8 x9 (jfi h_29 177 r0) r0 h_46) ∧ (¬ (lg_cmp (jfl h_46 267 r4) (-9007199254740991 : Int64)) < 0 → W_X8_gather_182 D d Q K43 r0 r1 (y2 + (1 : Int64)) r4 x5 x6 x7 x8 x9 (jfi h_29 177 r0) r0 (1 : Int32) h_46)))))) (jth Q))))))) (jth Q)))) (jth Q))) ∧ ((jfi h 306 r1) = (1 : Int32) → W_X8_gather_258 D d Q K43 r0 r1 (y2 + (1 : Int64)) r4 x5 x6 x7 x8 x9 h))) ∧ (¬ (jai h (jfr h 210 r0) (ixn x9)) = x8 → W_X8_gather_258 D d Q K43 r0 r1 y2 r4 x5 x6 x7 x8 x9 h))))
theorem w_X8_gather_43 {D : JD} {d : Nat} {Q : JO → JH → Prop} {K43 : Nat → Nat → Int64 → Nat → Int32 → Int32 → Int32 → Int32 → Int32 → JH → Prop} {r0 : Nat} {r1 : Nat} {y2 : Int64} {r4 : Nat} {x5 : Int32} {x6 : Int32} {x7 : Int32} {x8 : Int32} {x9 : Int32} {h : JH} (hK43 : ∀ (r0 : Nat) (r1 : Nat) (y2 : Int64) (r4 : Nat) (x5 : Int32) (x6 : Int32) (x7 : Int32) (x8 : Int32) (x9 : Int32) (h : JH), K43 r0 r1 y2 r4 x5 x6 x7 x8 x9 h → JW D (d + 1) mX8_gather 43 [some (vR 41 r0), some (vR 48 r1), some (vL y2), none, some (vR 46 r4), some (vI x5), some (vI x6), some (vI x7), some (vI x8), some (vI x9), none, none] [] h Q) (w : W_X8_gather_43 D d Q K43 r0 r1 y2 r4 x5 x6 x7 x8 x9 h) : JW D (d + 1) mX8_gather 43 [some (vR 41 r0), some (vR 48 r1), some (vL y2), none, some (vR 46 r4), some (vI x5), some (vI x6), some (vI x7), some (vI x8), some (vI x9), none, none] [] h Q := by
  unfold W_X8_gather_43 at w
  refine jw_iload (pc' := 45) rfl rfl ?_
  refine jw_aload_n (pc' := 46) rfl rfl ?_
  obtain ⟨g_1, w⟩ := w
  refine jw_getI (pc' := 49) (F := 209) rfl rfl rfl rfl g_1 ?_
  refine jw_icmp_ge (tgt := 264) (pc' := 52) rfl rfl (fun c_2 => ?_) (fun c_2 => ?_)
  · replace w := w.1 c_2
    refine jw_aload_n (pc' := 265) rfl rfl ?_
    refine jw_getR (pc' := 268) (F := 204) (t' := 168) rfl rfl rfl rfl rfl g_1 ?_
    refine jw_iconst (pc' := 269) (x := (0 : Int32)) rfl rfl ?_
    refine jw_iload (pc' := 271) rfl rfl ?_
    obtain ⟨g_3, w⟩ := w
    obtain ⟨g_4, w⟩ := w
    refine jw_iast' (pc' := 272) rfl rfl rfl rfl rfl g_3 g_4 (fun h_5 e_6 => ?_)
    replace w := w h_5 e_6
    refine jw_aload_n (pc' := 273) rfl rfl ?_
    refine jw_getR (pc' := 276) (F := 204) (t' := 168) rfl rfl rfl rfl rfl g_1 ?_
    refine jw_iconst (pc' := 277) (x := (1 : Int32)) rfl rfl ?_
    refine jw_iload (pc' := 279) rfl rfl ?_
    obtain ⟨g_7, w⟩ := w
    obtain ⟨g_8, w⟩ := w
    refine jw_iast' (pc' := 280) rfl rfl rfl rfl rfl g_7 g_8 (fun h_9 e_10 => ?_)
    replace w := w h_9 e_10
    refine jw_aload_n (pc' := 281) rfl rfl ?_
    refine jw_getR (pc' := 284) (F := 204) (t' := 168) rfl rfl rfl rfl rfl g_1 ?_
    refine jw_iconst (pc' := 285) (x := (2 : Int32)) rfl rfl ?_
    refine jw_iload (pc' := 287) rfl rfl ?_
    obtain ⟨g_11, w⟩ := w
    obtain ⟨g_12, w⟩ := w
    refine jw_iast' (pc' := 288) rfl rfl rfl rfl rfl g_11 g_12 (fun h_13 e_14 => ?_)
    replace w := w h_13 e_14
    refine jw_aload_n (pc' := 289) rfl rfl ?_
    obtain ⟨g_15, w⟩ := w
    refine jw_getR (pc' := 292) (F := 307) (t' := 64) rfl rfl rfl rfl rfl g_15 ?_
    refine jw_ldcwS (pc' := 295) rfl rfl rfl rfl ?_
    obtain ⟨g_16, w⟩ := w
    refine jw_cI (st := []) (sa := [vR 64 (jfr h_13 307 r1), vR 51 (jcs D 305)]) okJ5_equals rfl rfl rfl rfl rfl rfl (jstp_virtual (sa := [vR 51 (jcs D 305)]) (st := []) (k := 0) rfl rfl sJ5_equals okJ5_equals g_16 (one64.k g_16) rfl rfl) w (fun v_19 h_17 _ _ w => ?_)
    refine jw_if_eq (tgt := 307) (pc' := 301) rfl rfl (fun c_20 => ?_) (fun c_20 => ?_)
    · replace w := w.1 c_20
      refine jw_aload (pc' := 309) rfl rfl ?_
      exact jw_areturn rfl rfl rfl rfl rfl w
    · replace w := w.2 c_20
      refine jw_aload_n (pc' := 302) rfl rfl ?_
      refine jw_lload_n (pc' := 303) rfl rfl ?_
      refine jw_cR (st := []) (sa := [vR 41 r0, vL y2]) okX8_number rfl rfl rfl rfl rfl rfl (jstp_virtual (sa := [vL y2]) (st := []) (k := 0) rfl rfl sX8_number okX8_number g_1 (one41.k g_1) rfl rfl) w (fun v_23 h_21 _ _ _ w => ?_)
      exact jw_areturn rfl rfl rfl rfl rfl w
  · replace w := w.2 c_2
    refine jw_aload_n (pc' := 53) rfl rfl ?_
    refine jw_getR (pc' := 56) (F := 210) (t' := 171) rfl rfl rfl rfl rfl g_1 ?_
    refine jw_iload (pc' := 58) rfl rfl ?_
    obtain ⟨g_24, w⟩ := w
    obtain ⟨g_25, w⟩ := w
    refine jw_iald (pc' := 59) rfl rfl rfl rfl g_24 g_25.ix g_25.2 ?_
    refine jw_iload (pc' := 61) rfl rfl ?_
    refine jw_icmp_eq (tgt := 67) (pc' := 64) rfl rfl (fun c_26 => ?_) (fun c_26 => ?_)
    · replace w := w.1 c_26
      refine jw_aload_n (pc' := 68) rfl rfl ?_
      obtain ⟨g_27, w⟩ := w
      refine jw_getI (pc' := 71) (F := 306) rfl rfl rfl rfl g_27 ?_
      refine jw_iconst (pc' := 72) (x := (1 : Int32)) rfl rfl ?_
      refine jw_icmp_ne (tgt := 82) (pc' := 75) rfl rfl (fun c_28 => ?_) (fun c_28 => ?_)
      · replace w := w.1 c_28
        refine jw_aload_n (pc' := 83) rfl rfl ?_
        refine jw_iload (pc' := 85) rfl rfl ?_
        refine jw_cV (st := []) (sa := [vR 41 r0, vI x9]) okX8_useRow rfl rfl rfl rfl rfl rfl (jstp_virtual (sa := [vI x9]) (st := []) (k := 0) rfl rfl sX8_useRow okX8_useRow g_1 (one41.k g_1) rfl rfl) w (fun h_29 _ _ w => ?_)
        refine jw_aload_n (pc' := 89) rfl rfl ?_
        refine jw_getI (pc' := 92) (F := 177) rfl rfl rfl rfl g_1 ?_
        refine jw_istore (pc' := 94) (ls' := [some (vR 41 r0), some (vR 48 r1), some (vL y2), none, some (vR 46 r4), some (vI x5), some (vI x6), some (vI x7), some (vI x8), some (vI x9), some (vI (jfi h_29 177 r0)), none]) rfl (by decide) rfl ?_
        refine jw_aload_n (pc' := 95) rfl rfl ?_
        refine jw_aload_n (pc' := 96) rfl rfl ?_
        refine jw_getR (pc' := 99) (F := 310) (t' := 215) rfl rfl rfl rfl rfl g_27 ?_
        refine jw_iconst (pc' := 100) (x := (0 : Int32)) rfl rfl ?_
        obtain ⟨g_32, w⟩ := w
        obtain ⟨g_33, w⟩ := w
        refine jw_aald (pc' := 101) (t' := 48) rfl rfl rfl rfl g_32 g_33.ix g_33.2 ?_
        refine jw_cR (st := []) (sa := [vR 41 r0, vR 48 (jar h_29 (jfr h_29 310 r1) (ixn (0 : Int32)))]) okX8_eval rfl rfl rfl rfl rfl rfl (jstp_virtual (sa := [vR 48 (jar h_29 (jfr h_29 310 r1) (ixn (0 : Int32)))]) (st := []) (k := 0) rfl rfl sX8_eval okX8_eval g_1 (one41.k g_1) rfl rfl) w (fun v_36 h_34 _ _ _ w => ?_)
        refine jw_astore (pc' := 106) (ls' := [some (vR 41 r0), some (vR 48 r1), some (vL y2), none, some (vR 46 r4), some (vI x5), some (vI x6), some (vI x7), some (vI x8), some (vI x9), some (vI (jfi h_29 177 r0)), some (vR 46 v_36)]) rfl (by decide) rfl ?_
        refine jw_aload (pc' := 108) rfl rfl ?_
        obtain ⟨g_37, w⟩ := w
        refine jw_getI (pc' := 111) (F := 266) rfl rfl rfl rfl g_37 ?_
        refine jw_if_eq (tgt := 252) (pc' := 114) rfl rfl (fun c_38 => ?_) (fun c_38 => ?_)
        · replace w := w.1 c_38
          refine jw_gen (ls' := [some (vR 41 r0), some (vR 48 r1), some (vL y2), none, some (vR 46 r4), some (vI x5), some (vI x6), some (vI x7), some (vI x8), some (vI x9), some (vI (jfi h_29 177 r0)), none]) (st' := []) (And.intro (Or.inl rfl) (And.intro (Or.inl rfl) (And.intro (Or.inl rfl) (And.intro (Or.inl rfl) (And.intro (Or.inl rfl) (And.intro (Or.inl rfl) (And.intro (Or.inl rfl) (And.intro (Or.inl rfl) (And.intro (Or.inl rfl) (And.intro (Or.inl rfl) (trivial))))))))))) (trivial) ?_
          exact w_X8_gather_252 hK43 w
        · replace w := w.2 c_38
          refine jw_lload_n (pc' := 115) rfl rfl ?_
          refine jw_lconst (pc' := 116) (x := (1 : Int64)) rfl rfl ?_
          refine jw_ladd (pc' := 117) rfl ?_
          refine jw_lstore_n (pc' := 118) (ls' := [some (vR 41 r0), some (vR 48 r1), some (vL (y2 + (1 : Int64))), none, some (vR 46 r4), some (vI x5), some (vI x6), some (vI x7), some (vI x8), some (vI x9), some (vI (jfi h_29 177 r0)), some (vR 46 v_36)]) rfl (by decide) rfl ?_
          refine jw_lload_n (pc' := 119) rfl rfl ?_
          refine jw_lconst (pc' := 120) (x := (1 : Int64)) rfl rfl ?_
          refine jw_lcmp (pc' := 121) rfl ?_
          refine jw_if_le (tgt := 190) (pc' := 124) rfl rfl (fun c_39 => ?_) (fun c_39 => ?_)
          · replace w := w.1 c_39
            exact w_X8_gather_190 hK43 w
          · replace w := w.2 c_39
            refine jw_aload_n (pc' := 125) rfl rfl ?_
            refine jw_getR (pc' := 128) (F := 307) (t' := 64) rfl rfl rfl rfl rfl g_27 ?_
            refine jw_ldcwS (pc' := 131) rfl rfl rfl rfl ?_
            obtain ⟨g_40, w⟩ := w
            refine jw_cI (st := []) (sa := [vR 64 (jfr h_34 307 r1), vR 51 (jcs D 306)]) okJ5_equals rfl rfl rfl rfl rfl rfl (jstp_virtual (sa := [vR 51 (jcs D 306)]) (st := []) (k := 0) rfl rfl sJ5_equals okJ5_equals g_40 (one64.k g_40) rfl rfl) w (fun v_43 h_41 _ _ w => ?_)
            refine jw_if_eq (tgt := 190) (pc' := 137) rfl rfl (fun c_44 => ?_) (fun c_44 => ?_)
            · replace w := w.1 c_44
              exact w_X8_gather_190 hK43 w
            · replace w := w.2 c_44
              refine jw_aload (pc' := 139) rfl rfl ?_
              refine jw_dup (pc' := 140) rfl rfl ?_
              obtain ⟨g_45, w⟩ := w
              refine jw_getL (pc' := 143) (F := 267) rfl rfl rfl rfl g_45 ?_
              refine jw_aload (pc' := 145) rfl rfl ?_
              refine jw_getL (pc' := 148) (F := 267) rfl rfl rfl rfl g_37 ?_
              refine jw_ladd (pc' := 149) rfl ?_
              refine jw_putL' (pc' := 152) (F := 267) rfl rfl rfl (Or.inr rfl) (Or.inl rfl) rfl rfl rfl g_45 (fun h_46 e_47 => ?_)
              replace w := w h_46 e_47
              refine jw_aload_n (pc' := 153) rfl rfl ?_
              refine jw_aload (pc' := 155) rfl rfl ?_
              refine jw_getL (pc' := 158) (F := 267) rfl rfl rfl rfl g_45 ?_
              refine jw_ldc2 (pc' := 161) (v := (9007199254740991 : Int64)) rfl rfl ?_
              refine jw_lcmp (pc' := 162) rfl ?_
              refine jw_if_gt (tgt := 181) (pc' := 165) rfl rfl (fun c_48 => ?_) (fun c_48 => ?_)
              · replace w := w.1 c_48
                refine jw_gen (ls' := [some (vR 41 r0), some (vR 48 r1), some (vL (y2 + (1 : Int64))), none, some (vR 46 r4), some (vI x5), some (vI x6), some (vI x7), some (vI x8), some (vI x9), some (vI (jfi h_29 177 r0)), none]) (st' := [vR 41 r0]) (And.intro (Or.inl rfl) (And.intro (Or.inl rfl) (And.intro (Or.inl rfl) (And.intro (Or.inl rfl) (And.intro (Or.inl rfl) (And.intro (Or.inl rfl) (And.intro (Or.inl rfl) (And.intro (Or.inl rfl) (And.intro (Or.inl rfl) (And.intro (Or.inl rfl) (trivial))))))))))) (And.intro (Or.inl rfl) (trivial)) ?_
                exact w_X8_gather_181 hK43 w
              · replace w := w.2 c_48
                refine jw_aload (pc' := 167) rfl rfl ?_
                refine jw_getL (pc' := 170) (F := 267) rfl rfl rfl rfl g_45 ?_
                refine jw_ldc2 (pc' := 173) (v := (-9007199254740991 : Int64)) rfl rfl ?_
                refine jw_lcmp (pc' := 174) rfl ?_
                refine jw_if_lt (tgt := 181) (pc' := 177) rfl rfl (fun c_49 => ?_) (fun c_49 => ?_)
                · replace w := w.1 c_49
                  refine jw_gen (ls' := [some (vR 41 r0), some (vR 48 r1), some (vL (y2 + (1 : Int64))), none, some (vR 46 r4), some (vI x5), some (vI x6), some (vI x7), some (vI x8), some (vI x9), some (vI (jfi h_29 177 r0)), none]) (st' := [vR 41 r0]) (And.intro (Or.inl rfl) (And.intro (Or.inl rfl) (And.intro (Or.inl rfl) (And.intro (Or.inl rfl) (And.intro (Or.inl rfl) (And.intro (Or.inl rfl) (And.intro (Or.inl rfl) (And.intro (Or.inl rfl) (And.intro (Or.inl rfl) (And.intro (Or.inl rfl) (trivial))))))))))) (And.intro (Or.inl rfl) (trivial)) ?_
                  exact w_X8_gather_181 hK43 w
                · replace w := w.2 c_49
                  refine jw_iconst (pc' := 178) (x := (1 : Int32)) rfl rfl ?_
                  refine jw_goto (pc' := 182) rfl rfl ?_
                  refine jw_gen (ls' := [some (vR 41 r0), some (vR 48 r1), some (vL (y2 + (1 : Int64))), none, some (vR 46 r4), some (vI x5), some (vI x6), some (vI x7), some (vI x8), some (vI x9), some (vI (jfi h_29 177 r0)), none]) (st' := [vI (1 : Int32), vR 41 r0]) (And.intro (Or.inl rfl) (And.intro (Or.inl rfl) (And.intro (Or.inl rfl) (And.intro (Or.inl rfl) (And.intro (Or.inl rfl) (And.intro (Or.inl rfl) (And.intro (Or.inl rfl) (And.intro (Or.inl rfl) (And.intro (Or.inl rfl) (And.intro (Or.inl rfl) (trivial))))))))))) (And.intro (Or.inl rfl) (And.intro (Or.inl rfl) (trivial))) ?_
                  exact w_X8_gather_182 hK43 w
      · replace w := w.2 c_28
        refine jw_lload_n (pc' := 76) rfl rfl ?_
        refine jw_lconst (pc' := 77) (x := (1 : Int64)) rfl rfl ?_
        refine jw_ladd (pc' := 78) rfl ?_
        refine jw_lstore_n (pc' := 79) (ls' := [some (vR 41 r0), some (vR 48 r1), some (vL (y2 + (1 : Int64))), none, some (vR 46 r4), some (vI x5), some (vI x6), some (vI x7), some (vI x8), some (vI x9), none, none]) rfl (by decide) rfl ?_
        refine jw_goto (pc' := 258) rfl rfl ?_
        exact w_X8_gather_258 hK43 w
    · replace w := w.2 c_26
      refine jw_goto (pc' := 258) rfl rfl ?_
      exact w_X8_gather_258 hK43 w
def L_X8_gather_43 (D : JD) (d : Nat) (Q : JO → JH → Prop) : Nat → Nat → Nat → Int64 → Nat → Int32 → Int32 → Int32 → Int32 → Int32 → JH → Prop
  | 0 => fun _ _ _ _ _ _ _ _ _ _ => False
  | n + 1 => fun r0 r1 y2 r4 x5 x6 x7 x8 x9 h => W_X8_gather_43 D d Q (L_X8_gather_43 D d Q n) r0 r1 y2 r4 x5 x6 x7 x8 x9 h
theorem l_X8_gather_43 {D : JD} {d : Nat} {Q : JO → JH → Prop} : ∀ (n : Nat) (r0 : Nat) (r1 : Nat) (y2 : Int64) (r4 : Nat) (x5 : Int32) (x6 : Int32) (x7 : Int32) (x8 : Int32) (x9 : Int32) (h : JH), L_X8_gather_43 D d Q n r0 r1 y2 r4 x5 x6 x7 x8 x9 h → JW D (d + 1) mX8_gather 43 [some (vR 41 r0), some (vR 48 r1), some (vL y2), none, some (vR 46 r4), some (vI x5), some (vI x6), some (vI x7), some (vI x8), some (vI x9), none, none] [] h Q := by
  intro n
  induction n with
  | zero => intro _ _ _ _ _ _ _ _ _ _ w; exact w.elim
  | succ n ih => intro _ _ _ _ _ _ _ _ _ h w; exact w_X8_gather_43 ih w
def W_X8_gather_0 (D : JD) (d : Nat) (Q : JO → JH → Prop) (r0 : Nat) (r1 : Nat) (h : JH) : Prop :=
  r0 ≠ 0 ∧ (cX8_value D d r0 (0 : Int32) (0 : Int64) h (pR D h 46 (fun v_4 h_2 => (jfr h_2 204 r0) ≠ 0 ∧ jin (0 : Int32) (jln h_2 (jfr h_2 204 r0)) ∧ (jin (1 : Int32) (jln h_2 (jfr h_2 204 r0)) ∧ (jin (2 : Int32) (jln h_2 (jfr h_2 204 r0)) ∧ (∃ n, L_X8_gather_43 D d Q n r0 r1 (0 : Int64) v_4 (jai h_2 (jfr h_2 204 r0) (ixn (0 : Int32))) (jai h_2 (jfr h_2 204 r0) (ixn (1 : Int32))) (jai h_2 (jfr h_2 204 r0) (ixn (2 : Int32))) (jfi h_2 205 r0) (0 : Int32) h_2)))) (jth Q)))
theorem w_X8_gather_0 {D : JD} {d : Nat} {Q : JO → JH → Prop} {r0 : Nat} {r1 : Nat} {h : JH} (w : W_X8_gather_0 D d Q r0 r1 h) : JW D (d + 1) mX8_gather 0 [some (vR 41 r0), some (vR 48 r1), none, none, none, none, none, none, none, none, none, none] [] h Q := by
  unfold W_X8_gather_0 at w
  refine jw_lconst (pc' := 1) (x := (0 : Int64)) rfl rfl ?_
  refine jw_lstore_n (pc' := 2) (ls' := [some (vR 41 r0), some (vR 48 r1), some (vL (0 : Int64)), none, none, none, none, none, none, none, none, none]) rfl (by decide) rfl ?_
  refine jw_aload_n (pc' := 3) rfl rfl ?_
  refine jw_iconst (pc' := 4) (x := (0 : Int32)) rfl rfl ?_
  refine jw_lconst (pc' := 5) (x := (0 : Int64)) rfl rfl ?_
  obtain ⟨g_1, w⟩ := w
  refine jw_cR (st := []) (sa := [vR 41 r0, vI (0 : Int32), vL (0 : Int64)]) okX8_value rfl rfl rfl rfl rfl rfl (jstp_virtual (sa := [vI (0 : Int32), vL (0 : Int64)]) (st := []) (k := 0) rfl rfl sX8_value okX8_value g_1 (one41.k g_1) rfl rfl) w (fun v_4 h_2 _ _ _ w => ?_)
  refine jw_astore (pc' := 10) (ls' := [some (vR 41 r0), some (vR 48 r1), some (vL (0 : Int64)), none, some (vR 46 v_4), none, none, none, none, none, none, none]) rfl (by decide) rfl ?_
  refine jw_aload_n (pc' := 11) rfl rfl ?_
  refine jw_getR (pc' := 14) (F := 204) (t' := 168) rfl rfl rfl rfl rfl g_1 ?_
  refine jw_iconst (pc' := 15) (x := (0 : Int32)) rfl rfl ?_
  obtain ⟨g_5, w⟩ := w
  obtain ⟨g_6, w⟩ := w
  refine jw_iald (pc' := 16) rfl rfl rfl rfl g_5 g_6.ix g_6.2 ?_
  refine jw_istore (pc' := 18) (ls' := [some (vR 41 r0), some (vR 48 r1), some (vL (0 : Int64)), none, some (vR 46 v_4), some (vI (jai h_2 (jfr h_2 204 r0) (ixn (0 : Int32)))), none, none, none, none, none, none]) rfl (by decide) rfl ?_
  refine jw_aload_n (pc' := 19) rfl rfl ?_
  refine jw_getR (pc' := 22) (F := 204) (t' := 168) rfl rfl rfl rfl rfl g_1 ?_
  refine jw_iconst (pc' := 23) (x := (1 : Int32)) rfl rfl ?_
  obtain ⟨g_7, w⟩ := w
  refine jw_iald (pc' := 24) rfl rfl rfl rfl g_5 g_7.ix g_7.2 ?_
  refine jw_istore (pc' := 26) (ls' := [some (vR 41 r0), some (vR 48 r1), some (vL (0 : Int64)), none, some (vR 46 v_4), some (vI (jai h_2 (jfr h_2 204 r0) (ixn (0 : Int32)))), some (vI (jai h_2 (jfr h_2 204 r0) (ixn (1 : Int32)))), none, none, none, none, none]) rfl (by decide) rfl ?_
  refine jw_aload_n (pc' := 27) rfl rfl ?_
  refine jw_getR (pc' := 30) (F := 204) (t' := 168) rfl rfl rfl rfl rfl g_1 ?_
  refine jw_iconst (pc' := 31) (x := (2 : Int32)) rfl rfl ?_
  obtain ⟨g_8, w⟩ := w
  refine jw_iald (pc' := 32) rfl rfl rfl rfl g_5 g_8.ix g_8.2 ?_
  refine jw_istore (pc' := 34) (ls' := [some (vR 41 r0), some (vR 48 r1), some (vL (0 : Int64)), none, some (vR 46 v_4), some (vI (jai h_2 (jfr h_2 204 r0) (ixn (0 : Int32)))), some (vI (jai h_2 (jfr h_2 204 r0) (ixn (1 : Int32)))), some (vI (jai h_2 (jfr h_2 204 r0) (ixn (2 : Int32)))), none, none, none, none]) rfl (by decide) rfl ?_
  refine jw_aload_n (pc' := 35) rfl rfl ?_
  refine jw_getI (pc' := 38) (F := 205) rfl rfl rfl rfl g_1 ?_
  refine jw_istore (pc' := 40) (ls' := [some (vR 41 r0), some (vR 48 r1), some (vL (0 : Int64)), none, some (vR 46 v_4), some (vI (jai h_2 (jfr h_2 204 r0) (ixn (0 : Int32)))), some (vI (jai h_2 (jfr h_2 204 r0) (ixn (1 : Int32)))), some (vI (jai h_2 (jfr h_2 204 r0) (ixn (2 : Int32)))), some (vI (jfi h_2 205 r0)), none, none, none]) rfl (by decide) rfl ?_
  refine jw_iconst (pc' := 41) (x := (0 : Int32)) rfl rfl ?_
  refine jw_istore (pc' := 43) (ls' := [some (vR 41 r0), some (vR 48 r1), some (vL (0 : Int64)), none, some (vR 46 v_4), some (vI (jai h_2 (jfr h_2 204 r0) (ixn (0 : Int32)))), some (vI (jai h_2 (jfr h_2 204 r0) (ixn (1 : Int32)))), some (vI (jai h_2 (jfr h_2 204 r0) (ixn (2 : Int32)))), some (vI (jfi h_2 205 r0)), some (vI (0 : Int32)), none, none]) rfl (by decide) rfl ?_
  obtain ⟨n, w⟩ := w
  exact l_X8_gather_43 n _ _ _ _ _ _ _ _ _ _ w
def T_X8_gather (D : JD) (d : Nat) (Q : JO → JH → Prop) (r0 : Nat) (r1 : Nat) (h : JH) : Prop := W_X8_gather_0 D d Q r0 r1 h
theorem t_X8_gather {D : JD} {d : Nat} {Q : JO → JH → Prop} {r0 : Nat} {r1 : Nat} {h : JH} (w : T_X8_gather D d Q r0 r1 h) : cX8_gather D (d + 1) r0 r1 h Q := by
  unfold T_X8_gather at w
  unfold cX8_gather
  exact w_X8_gather_0 w
def W_X8_useRow_2 (D : JD) (d : Nat) (Q : JO → JH → Prop) (K2 : Nat → Int32 → Int32 → JH → Prop) (r0 : Nat) (x1 : Int32) (x2 : Int32) (h : JH) : Prop :=
  ((3 : Int32) ≤ x2 → Q (.inl none) h) ∧ (¬ (3 : Int32) ≤ x2 → r0 ≠ 0 ∧ ((jfr h 208 r0) ≠ 0 ∧ jin (((3 : Int32) * x1) + x2) (jln h (jfr h 208 r0)) ∧ ((jfr h 204 r0) ≠ 0 ∧ jin x2 (jln h (jfr h 204 r0)) ∧ ∀ h_7 : JH, h_7 = wai h (jfr h 204 r0) (ixn x2) (jai h (jfr h 208 r0) (ixn (((3 : Int32) * x1) + x2))) → (K2 r0 x1 (x2 + (1 : Int32)) h_7))))
theorem w_X8_useRow_2 {D : JD} {d : Nat} {Q : JO → JH → Prop} {K2 : Nat → Int32 → Int32 → JH → Prop} {r0 : Nat} {x1 : Int32} {x2 : Int32} {h : JH} (hK2 : ∀ (r0 : Nat) (x1 : Int32) (x2 : Int32) (h : JH), K2 r0 x1 x2 h → JW D (d + 1) mX8_useRow 2 [some (vR 41 r0), some (vI x1), some (vI x2)] [] h Q) (w : W_X8_useRow_2 D d Q K2 r0 x1 x2 h) : JW D (d + 1) mX8_useRow 2 [some (vR 41 r0), some (vI x1), some (vI x2)] [] h Q := by
  unfold W_X8_useRow_2 at w
  refine jw_iload_n (pc' := 3) rfl rfl ?_
  refine jw_iconst (pc' := 4) (x := (3 : Int32)) rfl rfl ?_
  refine jw_icmp_ge (tgt := 29) (pc' := 7) rfl rfl (fun c_1 => ?_) (fun c_1 => ?_)
  · replace w := w.1 c_1
    exact jw_return rfl rfl w
  · replace w := w.2 c_1
    refine jw_aload_n (pc' := 8) rfl rfl ?_
    obtain ⟨g_2, w⟩ := w
    refine jw_getR (pc' := 11) (F := 204) (t' := 168) rfl rfl rfl rfl rfl g_2 ?_
    refine jw_iload_n (pc' := 12) rfl rfl ?_
    refine jw_aload_n (pc' := 13) rfl rfl ?_
    refine jw_getR (pc' := 16) (F := 208) (t' := 170) rfl rfl rfl rfl rfl g_2 ?_
    refine jw_iconst (pc' := 17) (x := (3 : Int32)) rfl rfl ?_
    refine jw_iload_n (pc' := 18) rfl rfl ?_
    refine jw_imul (pc' := 19) rfl ?_
    refine jw_iload_n (pc' := 20) rfl rfl ?_
    refine jw_iadd (pc' := 21) rfl ?_
    obtain ⟨g_3, w⟩ := w
    obtain ⟨g_4, w⟩ := w
    refine jw_iald (pc' := 22) rfl rfl rfl rfl g_3 g_4.ix g_4.2 ?_
    obtain ⟨g_5, w⟩ := w
    obtain ⟨g_6, w⟩ := w
    refine jw_iast' (pc' := 23) rfl rfl rfl rfl rfl g_5 g_6 (fun h_7 e_8 => ?_)
    replace w := w h_7 e_8
    refine jw_iinc (pc' := 26) (y := x2 + (1 : Int32)) (ls' := [some (vR 41 r0), some (vI x1), some (vI (x2 + (1 : Int32)))]) rfl (by decide) rfl rfl rfl ?_
    refine jw_goto (pc' := 2) rfl rfl ?_
    exact hK2 _ _ _ _ w
def L_X8_useRow_2 (D : JD) (d : Nat) (Q : JO → JH → Prop) : Nat → Nat → Int32 → Int32 → JH → Prop
  | 0 => fun _ _ _ _ => False
  | n + 1 => fun r0 x1 x2 h => W_X8_useRow_2 D d Q (L_X8_useRow_2 D d Q n) r0 x1 x2 h
theorem l_X8_useRow_2 {D : JD} {d : Nat} {Q : JO → JH → Prop} : ∀ (n : Nat) (r0 : Nat) (x1 : Int32) (x2 : Int32) (h : JH), L_X8_useRow_2 D d Q n r0 x1 x2 h → JW D (d + 1) mX8_useRow 2 [some (vR 41 r0), some (vI x1), some (vI x2)] [] h Q := by
  intro n
  induction n with
  | zero => intro _ _ _ _ w; exact w.elim
  | succ n ih => intro _ _ _ h w; exact w_X8_useRow_2 ih w
def W_X8_useRow_0 (D : JD) (d : Nat) (Q : JO → JH → Prop) (r0 : Nat) (x1 : Int32) (h : JH) : Prop :=
  ∃ n, L_X8_useRow_2 D d Q n r0 x1 (0 : Int32) h
theorem w_X8_useRow_0 {D : JD} {d : Nat} {Q : JO → JH → Prop} {r0 : Nat} {x1 : Int32} {h : JH} (w : W_X8_useRow_0 D d Q r0 x1 h) : JW D (d + 1) mX8_useRow 0 [some (vR 41 r0), some (vI x1), none] [] h Q := by
  unfold W_X8_useRow_0 at w
  refine jw_iconst (pc' := 1) (x := (0 : Int32)) rfl rfl ?_
  refine jw_istore_n (pc' := 2) (ls' := [some (vR 41 r0), some (vI x1), some (vI (0 : Int32))]) rfl (by decide) rfl ?_
  obtain ⟨n, w⟩ := w
  exact l_X8_useRow_2 n _ _ _ _ w
def T_X8_useRow (D : JD) (d : Nat) (Q : JO → JH → Prop) (r0 : Nat) (x1 : Int32) (h : JH) : Prop := W_X8_useRow_0 D d Q r0 x1 h
theorem t_X8_useRow {D : JD} {d : Nat} {Q : JO → JH → Prop} {r0 : Nat} {x1 : Int32} {h : JH} (w : T_X8_useRow D d Q r0 x1 h) : cX8_useRow D (d + 1) r0 x1 h Q := by
  unfold T_X8_useRow at w
  unfold cX8_useRow
  exact w_X8_useRow_0 w
def W_X8_number_22 (D : JD) (d : Nat) (Q : JO → JH → Prop) (r0 : Nat) (y1 : Int64) (q0 : Nat) (s1 : Int32) (h : JH) : Prop :=
  q0 ≠ 0 ∧ (cX8_must D d q0 s1 (jcs D 324) h (pV D h (fun h_2 => r0 ≠ 0 ∧ (cX8_value D d r0 (20 : Int32) y1 h_2 (pR D h_2 46 (fun v_8 h_6 => Q (.inl (some (vR 46 v_8))) h_6) (jth Q)))) (jth Q)))
theorem w_X8_number_22 {D : JD} {d : Nat} {Q : JO → JH → Prop} {r0 : Nat} {y1 : Int64} {q0 : Nat} {s1 : Int32} {h : JH} (w : W_X8_number_22 D d Q r0 y1 q0 s1 h) : JW D (d + 1) mX8_number 22 [some (vR 41 r0), some (vL y1), none] [vI s1, vR 41 q0] h Q := by
  unfold W_X8_number_22 at w
  refine jw_ldcS (pc' := 24) rfl rfl rfl rfl ?_
  obtain ⟨g_1, w⟩ := w
  refine jw_cV (st := []) (sa := [vR 41 q0, vI s1, vR 51 (jcs D 324)]) okX8_must rfl rfl rfl rfl rfl rfl (jstp_virtual (sa := [vI s1, vR 51 (jcs D 324)]) (st := []) (k := 0) rfl rfl sX8_must okX8_must g_1 (one41.k g_1) rfl rfl) w (fun h_2 _ _ w => ?_)
  refine jw_aload_n (pc' := 28) rfl rfl ?_
  refine jw_bipush (pc' := 30) (x := (20 : Int32)) rfl rfl ?_
  refine jw_lload_n (pc' := 31) rfl rfl ?_
  obtain ⟨g_5, w⟩ := w
  refine jw_cR (st := []) (sa := [vR 41 r0, vI (20 : Int32), vL y1]) okX8_value rfl rfl rfl rfl rfl rfl (jstp_virtual (sa := [vI (20 : Int32), vL y1]) (st := []) (k := 0) rfl rfl sX8_value okX8_value g_5 (one41.k g_5) rfl rfl) w (fun v_8 h_6 _ _ _ w => ?_)
  exact jw_areturn rfl rfl rfl rfl rfl w
def W_X8_number_21 (D : JD) (d : Nat) (Q : JO → JH → Prop) (r0 : Nat) (y1 : Int64) (q0 : Nat) (h : JH) : Prop :=
  W_X8_number_22 D d Q r0 y1 q0 (0 : Int32) h
theorem w_X8_number_21 {D : JD} {d : Nat} {Q : JO → JH → Prop} {r0 : Nat} {y1 : Int64} {q0 : Nat} {h : JH} (w : W_X8_number_21 D d Q r0 y1 q0 h) : JW D (d + 1) mX8_number 21 [some (vR 41 r0), some (vL y1), none] [vR 41 q0] h Q := by
  unfold W_X8_number_21 at w
  refine jw_iconst (pc' := 22) (x := (0 : Int32)) rfl rfl ?_
  exact w_X8_number_22 w
def W_X8_number_0 (D : JD) (d : Nat) (Q : JO → JH → Prop) (r0 : Nat) (y1 : Int64) (h : JH) : Prop :=
  (0 < (lg_cmp y1 (9007199254740991 : Int64)) → W_X8_number_21 D d Q r0 y1 r0 h) ∧ (¬ 0 < (lg_cmp y1 (9007199254740991 : Int64)) → ((lg_cmp y1 (-9007199254740991 : Int64)) < 0 → W_X8_number_21 D d Q r0 y1 r0 h) ∧ (¬ (lg_cmp y1 (-9007199254740991 : Int64)) < 0 → W_X8_number_22 D d Q r0 y1 r0 (1 : Int32) h))
theorem w_X8_number_0 {D : JD} {d : Nat} {Q : JO → JH → Prop} {r0 : Nat} {y1 : Int64} {h : JH} (w : W_X8_number_0 D d Q r0 y1 h) : JW D (d + 1) mX8_number 0 [some (vR 41 r0), some (vL y1), none] [] h Q := by
  unfold W_X8_number_0 at w
  refine jw_aload_n (pc' := 1) rfl rfl ?_
  refine jw_lload_n (pc' := 2) rfl rfl ?_
  refine jw_ldc2 (pc' := 5) (v := (9007199254740991 : Int64)) rfl rfl ?_
  refine jw_lcmp (pc' := 6) rfl ?_
  refine jw_if_gt (tgt := 21) (pc' := 9) rfl rfl (fun c_1 => ?_) (fun c_1 => ?_)
  · replace w := w.1 c_1
    exact w_X8_number_21 w
  · replace w := w.2 c_1
    refine jw_lload_n (pc' := 10) rfl rfl ?_
    refine jw_ldc2 (pc' := 13) (v := (-9007199254740991 : Int64)) rfl rfl ?_
    refine jw_lcmp (pc' := 14) rfl ?_
    refine jw_if_lt (tgt := 21) (pc' := 17) rfl rfl (fun c_2 => ?_) (fun c_2 => ?_)
    · replace w := w.1 c_2
      exact w_X8_number_21 w
    · replace w := w.2 c_2
      refine jw_iconst (pc' := 18) (x := (1 : Int32)) rfl rfl ?_
      refine jw_goto (pc' := 22) rfl rfl ?_
      exact w_X8_number_22 w
def T_X8_number (D : JD) (d : Nat) (Q : JO → JH → Prop) (r0 : Nat) (y1 : Int64) (h : JH) : Prop := W_X8_number_0 D d Q r0 y1 h
theorem t_X8_number {D : JD} {d : Nat} {Q : JO → JH → Prop} {r0 : Nat} {y1 : Int64} {h : JH} (w : T_X8_number D d Q r0 y1 h) : cX8_number D (d + 1) r0 y1 h Q := by
  unfold T_X8_number at w
  unfold cX8_number
  exact w_X8_number_0 w
def W_X8_called_173 (D : JD) (d : Nat) (Q : JO → JH → Prop) (r0 : Nat) (h : JH) : Prop :=
  r0 ≠ 0 ∧ (cX8_value D d r0 (0 : Int32) (0 : Int64) h (pR D h 46 (fun v_4 h_2 => Q (.inl (some (vR 46 v_4))) h_2) (jth Q)))
theorem w_X8_called_173 {D : JD} {d : Nat} {Q : JO → JH → Prop} {r0 : Nat} {h : JH} (w : W_X8_called_173 D d Q r0 h) : JW D (d + 1) mX8_called 173 [some (vR 41 r0), none, none, none, none, none, none, none, none, none] [] h Q := by
  unfold W_X8_called_173 at w
  refine jw_aload_n (pc' := 174) rfl rfl ?_
  refine jw_iconst (pc' := 175) (x := (0 : Int32)) rfl rfl ?_
  refine jw_lconst (pc' := 176) (x := (0 : Int64)) rfl rfl ?_
  obtain ⟨g_1, w⟩ := w
  refine jw_cR (st := []) (sa := [vR 41 r0, vI (0 : Int32), vL (0 : Int64)]) okX8_value rfl rfl rfl rfl rfl rfl (jstp_virtual (sa := [vI (0 : Int32), vL (0 : Int64)]) (st := []) (k := 0) rfl rfl sX8_value okX8_value g_1 (one41.k g_1) rfl rfl) w (fun v_4 h_2 _ _ _ w => ?_)
  exact jw_areturn rfl rfl rfl rfl rfl w
def W_X8_called_437 (D : JD) (d : Nat) (Q : JO → JH → Prop) (K353 : Nat → Nat → Nat → Int32 → Int32 → JH → Prop) (r0 : Nat) (r2 : Nat) (r5 : Nat) (x6 : Int32) (x7 : Int32) (q0 : Nat) (q1 : Nat) (s2 : Int32) (h : JH) : Prop :=
  q0 ≠ 0 ∧ (cX8_put_2 D d q0 q1 s2 h (pV D h (fun h_2 => K353 r0 r2 r5 x6 (x7 + (1 : Int32)) h_2) (jth Q)))
theorem w_X8_called_437 {D : JD} {d : Nat} {Q : JO → JH → Prop} {K353 : Nat → Nat → Nat → Int32 → Int32 → JH → Prop} {r0 : Nat} {r2 : Nat} {r5 : Nat} {x6 : Int32} {x7 : Int32} {q0 : Nat} {q1 : Nat} {s2 : Int32} {h : JH} (hK353 : ∀ (r0 : Nat) (r2 : Nat) (r5 : Nat) (x6 : Int32) (x7 : Int32) (h : JH), K353 r0 r2 r5 x6 x7 h → JW D (d + 1) mX8_called 353 [some (vR 41 r0), none, some (vR 46 r2), none, none, some (vR 46 r5), some (vI x6), some (vI x7), none, none] [] h Q) (w : W_X8_called_437 D d Q K353 r0 r2 r5 x6 x7 q0 q1 s2 h) : JW D (d + 1) mX8_called 437 [some (vR 41 r0), none, some (vR 46 r2), none, none, some (vR 46 r5), some (vI x6), some (vI x7), none, none] [vI s2, vR 46 q1, vR 41 q0] h Q := by
  unfold W_X8_called_437 at w
  obtain ⟨g_1, w⟩ := w
  refine jw_cV (st := []) (sa := [vR 41 q0, vR 46 q1, vI s2]) okX8_put_2 rfl rfl rfl rfl rfl rfl (jstp_virtual (sa := [vR 46 q1, vI s2]) (st := []) (k := 0) rfl rfl sX8_put_2 okX8_put_2 g_1 (one41.k g_1) rfl rfl) w (fun h_2 _ _ w => ?_)
  refine jw_iinc (pc' := 443) (y := x7 + (1 : Int32)) (ls' := [some (vR 41 r0), none, some (vR 46 r2), none, none, some (vR 46 r5), some (vI x6), some (vI (x7 + (1 : Int32))), none, none]) rfl (by decide) rfl rfl rfl ?_
  refine jw_goto (pc' := 353) rfl rfl ?_
  exact hK353 _ _ _ _ _ _ w
def W_X8_called_417 (D : JD) (d : Nat) (Q : JO → JH → Prop) (K353 : Nat → Nat → Nat → Int32 → Int32 → JH → Prop) (r0 : Nat) (r2 : Nat) (r5 : Nat) (x6 : Int32) (x7 : Int32) (x8 : Int32) (s0 : Int32) (h : JH) : Prop :=
  (s0 = 0 → W_X8_called_437 D d Q K353 r0 r2 r5 x6 x7 r0 r5 x8 h) ∧ (¬ s0 = 0 → W_X8_called_437 D d Q K353 r0 r2 r5 x6 x7 r0 r5 (x8 ^^^ (32 : Int32)) h)
theorem w_X8_called_417 {D : JD} {d : Nat} {Q : JO → JH → Prop} {K353 : Nat → Nat → Nat → Int32 → Int32 → JH → Prop} {r0 : Nat} {r2 : Nat} {r5 : Nat} {x6 : Int32} {x7 : Int32} {x8 : Int32} {s0 : Int32} {h : JH} (hK353 : ∀ (r0 : Nat) (r2 : Nat) (r5 : Nat) (x6 : Int32) (x7 : Int32) (h : JH), K353 r0 r2 r5 x6 x7 h → JW D (d + 1) mX8_called 353 [some (vR 41 r0), none, some (vR 46 r2), none, none, some (vR 46 r5), some (vI x6), some (vI x7), none, none] [] h Q) (w : W_X8_called_417 D d Q K353 r0 r2 r5 x6 x7 x8 s0 h) : JW D (d + 1) mX8_called 417 [some (vR 41 r0), none, some (vR 46 r2), none, none, some (vR 46 r5), some (vI x6), some (vI x7), some (vI x8), none] [vI s0] h Q := by
  unfold W_X8_called_417 at w
  refine jw_istore (pc' := 419) (ls' := [some (vR 41 r0), none, some (vR 46 r2), none, none, some (vR 46 r5), some (vI x6), some (vI x7), some (vI x8), some (vI s0)]) rfl (by decide) rfl ?_
  refine jw_aload_n (pc' := 420) rfl rfl ?_
  refine jw_aload (pc' := 422) rfl rfl ?_
  refine jw_iload (pc' := 424) rfl rfl ?_
  refine jw_if_eq (tgt := 435) (pc' := 427) rfl rfl (fun c_1 => ?_) (fun c_1 => ?_)
  · replace w := w.1 c_1
    refine jw_iload (pc' := 437) rfl rfl ?_
    refine jw_gen (ls' := [some (vR 41 r0), none, some (vR 46 r2), none, none, some (vR 46 r5), some (vI x6), some (vI x7), none, none]) (st' := [vI x8, vR 46 r5, vR 41 r0]) (And.intro (Or.inl rfl) (And.intro (Or.inl rfl) (And.intro (Or.inl rfl) (And.intro (Or.inl rfl) (And.intro (Or.inl rfl) (trivial)))))) (And.intro (Or.inl rfl) (And.intro (Or.inl rfl) (And.intro (Or.inl rfl) (trivial)))) ?_
    exact w_X8_called_437 hK353 w
  · replace w := w.2 c_1
    refine jw_iload (pc' := 429) rfl rfl ?_
    refine jw_bipush (pc' := 431) (x := (32 : Int32)) rfl rfl ?_
    refine jw_ixor (pc' := 432) rfl ?_
    refine jw_goto (pc' := 437) rfl rfl ?_
    refine jw_gen (ls' := [some (vR 41 r0), none, some (vR 46 r2), none, none, some (vR 46 r5), some (vI x6), some (vI x7), none, none]) (st' := [vI (x8 ^^^ (32 : Int32)), vR 46 r5, vR 41 r0]) (And.intro (Or.inl rfl) (And.intro (Or.inl rfl) (And.intro (Or.inl rfl) (And.intro (Or.inl rfl) (And.intro (Or.inl rfl) (trivial)))))) (And.intro (Or.inl rfl) (And.intro (Or.inl rfl) (And.intro (Or.inl rfl) (trivial)))) ?_
    exact w_X8_called_437 hK353 w
def W_X8_called_416 (D : JD) (d : Nat) (Q : JO → JH → Prop) (K353 : Nat → Nat → Nat → Int32 → Int32 → JH → Prop) (r0 : Nat) (r2 : Nat) (r5 : Nat) (x6 : Int32) (x7 : Int32) (x8 : Int32) (h : JH) : Prop :=
  W_X8_called_417 D d Q K353 r0 r2 r5 x6 x7 x8 (0 : Int32) h
theorem w_X8_called_416 {D : JD} {d : Nat} {Q : JO → JH → Prop} {K353 : Nat → Nat → Nat → Int32 → Int32 → JH → Prop} {r0 : Nat} {r2 : Nat} {r5 : Nat} {x6 : Int32} {x7 : Int32} {x8 : Int32} {h : JH} (hK353 : ∀ (r0 : Nat) (r2 : Nat) (r5 : Nat) (x6 : Int32) (x7 : Int32) (h : JH), K353 r0 r2 r5 x6 x7 h → JW D (d + 1) mX8_called 353 [some (vR 41 r0), none, some (vR 46 r2), none, none, some (vR 46 r5), some (vI x6), some (vI x7), none, none] [] h Q) (w : W_X8_called_416 D d Q K353 r0 r2 r5 x6 x7 x8 h) : JW D (d + 1) mX8_called 416 [some (vR 41 r0), none, some (vR 46 r2), none, none, some (vR 46 r5), some (vI x6), some (vI x7), some (vI x8), none] [] h Q := by
  unfold W_X8_called_416 at w
  refine jw_iconst (pc' := 417) (x := (0 : Int32)) rfl rfl ?_
  exact w_X8_called_417 hK353 w
def W_X8_called_394 (D : JD) (d : Nat) (Q : JO → JH → Prop) (K353 : Nat → Nat → Nat → Int32 → Int32 → JH → Prop) (r0 : Nat) (r2 : Nat) (r5 : Nat) (x6 : Int32) (x7 : Int32) (x8 : Int32) (h : JH) : Prop :=
  W_X8_called_417 D d Q K353 r0 r2 r5 x6 x7 x8 (0 : Int32) h
theorem w_X8_called_394 {D : JD} {d : Nat} {Q : JO → JH → Prop} {K353 : Nat → Nat → Nat → Int32 → Int32 → JH → Prop} {r0 : Nat} {r2 : Nat} {r5 : Nat} {x6 : Int32} {x7 : Int32} {x8 : Int32} {h : JH} (hK353 : ∀ (r0 : Nat) (r2 : Nat) (r5 : Nat) (x6 : Int32) (x7 : Int32) (h : JH), K353 r0 r2 r5 x6 x7 h → JW D (d + 1) mX8_called 353 [some (vR 41 r0), none, some (vR 46 r2), none, none, some (vR 46 r5), some (vI x6), some (vI x7), none, none] [] h Q) (w : W_X8_called_394 D d Q K353 r0 r2 r5 x6 x7 x8 h) : JW D (d + 1) mX8_called 394 [some (vR 41 r0), none, some (vR 46 r2), none, none, some (vR 46 r5), some (vI x6), some (vI x7), some (vI x8), none] [] h Q := by
  unfold W_X8_called_394 at w
  refine jw_iconst (pc' := 395) (x := (0 : Int32)) rfl rfl ?_
  refine jw_goto (pc' := 417) rfl rfl ?_
  exact w_X8_called_417 hK353 w
def W_X8_called_353 (D : JD) (d : Nat) (Q : JO → JH → Prop) (K353 : Nat → Nat → Nat → Int32 → Int32 → JH → Prop) (r0 : Nat) (r2 : Nat) (r5 : Nat) (x6 : Int32) (x7 : Int32) (h : JH) : Prop :=
  r2 ≠ 0 ∧ (((jfi h 268 r2) ≤ x7 → Q (.inl (some (vR 46 r5))) h) ∧ (¬ (jfi h 268 r2) ≤ x7 → (jfr h 269 r2) ≠ 0 ∧ jin x7 (jln h (jfr h 269 r2)) ∧ ((x6 = 0 → ((jai h (jfr h 269 r2) (ixn x7)) < (65 : Int32) → W_X8_called_416 D d Q K353 r0 r2 r5 x6 x7 (jai h (jfr h 269 r2) (ixn x7)) h) ∧ (¬ (jai h (jfr h 269 r2) (ixn x7)) < (65 : Int32) → ((90 : Int32) < (jai h (jfr h 269 r2) (ixn x7)) → W_X8_called_416 D d Q K353 r0 r2 r5 x6 x7 (jai h (jfr h 269 r2) (ixn x7)) h) ∧ (¬ (90 : Int32) < (jai h (jfr h 269 r2) (ixn x7)) → W_X8_called_417 D d Q K353 r0 r2 r5 x6 x7 (jai h (jfr h 269 r2) (ixn x7)) (1 : Int32) h))) ∧ (¬ x6 = 0 → ((jai h (jfr h 269 r2) (ixn x7)) < (97 : Int32) → W_X8_called_394 D d Q K353 r0 r2 r5 x6 x7 (jai h (jfr h 269 r2) (ixn x7)) h) ∧ (¬ (jai h (jfr h 269 r2) (ixn x7)) < (97 : Int32) → ((122 : Int32) < (jai h (jfr h 269 r2) (ixn x7)) → W_X8_called_394 D d Q K353 r0 r2 r5 x6 x7 (jai h (jfr h 269 r2) (ixn x7)) h) ∧ (¬ (122 : Int32) < (jai h (jfr h 269 r2) (ixn x7)) → W_X8_called_417 D d Q K353 r0 r2 r5 x6 x7 (jai h (jfr h 269 r2) (ixn x7)) (1 : Int32) h))))))
theorem w_X8_called_353 {D : JD} {d : Nat} {Q : JO → JH → Prop} {K353 : Nat → Nat → Nat → Int32 → Int32 → JH → Prop} {r0 : Nat} {r2 : Nat} {r5 : Nat} {x6 : Int32} {x7 : Int32} {h : JH} (hK353 : ∀ (r0 : Nat) (r2 : Nat) (r5 : Nat) (x6 : Int32) (x7 : Int32) (h : JH), K353 r0 r2 r5 x6 x7 h → JW D (d + 1) mX8_called 353 [some (vR 41 r0), none, some (vR 46 r2), none, none, some (vR 46 r5), some (vI x6), some (vI x7), none, none] [] h Q) (w : W_X8_called_353 D d Q K353 r0 r2 r5 x6 x7 h) : JW D (d + 1) mX8_called 353 [some (vR 41 r0), none, some (vR 46 r2), none, none, some (vR 46 r5), some (vI x6), some (vI x7), none, none] [] h Q := by
  unfold W_X8_called_353 at w
  refine jw_iload (pc' := 355) rfl rfl ?_
  refine jw_aload_n (pc' := 356) rfl rfl ?_
  obtain ⟨g_1, w⟩ := w
  refine jw_getI (pc' := 359) (F := 268) rfl rfl rfl rfl g_1 ?_
  refine jw_icmp_ge (tgt := 446) (pc' := 362) rfl rfl (fun c_2 => ?_) (fun c_2 => ?_)
  · replace w := w.1 c_2
    refine jw_aload (pc' := 448) rfl rfl ?_
    exact jw_areturn rfl rfl rfl rfl rfl w
  · replace w := w.2 c_2
    refine jw_aload_n (pc' := 363) rfl rfl ?_
    refine jw_getR (pc' := 366) (F := 269) (t' := 197) rfl rfl rfl rfl rfl g_1 ?_
    refine jw_iload (pc' := 368) rfl rfl ?_
    obtain ⟨g_3, w⟩ := w
    obtain ⟨g_4, w⟩ := w
    refine jw_bald (pc' := 369) rfl rfl rfl rfl g_3 g_4.ix g_4.2 ?_
    refine jw_istore (pc' := 371) (ls' := [some (vR 41 r0), none, some (vR 46 r2), none, none, some (vR 46 r5), some (vI x6), some (vI x7), some (vI (jai h (jfr h 269 r2) (ixn x7))), none]) rfl (by decide) rfl ?_
    refine jw_iload (pc' := 373) rfl rfl ?_
    refine jw_if_eq (tgt := 398) (pc' := 376) rfl rfl (fun c_5 => ?_) (fun c_5 => ?_)
    · replace w := w.1 c_5
      refine jw_iload (pc' := 400) rfl rfl ?_
      refine jw_bipush (pc' := 402) (x := (65 : Int32)) rfl rfl ?_
      refine jw_icmp_lt (tgt := 416) (pc' := 405) rfl rfl (fun c_6 => ?_) (fun c_6 => ?_)
      · replace w := w.1 c_6
        exact w_X8_called_416 hK353 w
      · replace w := w.2 c_6
        refine jw_iload (pc' := 407) rfl rfl ?_
        refine jw_bipush (pc' := 409) (x := (90 : Int32)) rfl rfl ?_
        refine jw_icmp_gt (tgt := 416) (pc' := 412) rfl rfl (fun c_7 => ?_) (fun c_7 => ?_)
        · replace w := w.1 c_7
          exact w_X8_called_416 hK353 w
        · replace w := w.2 c_7
          refine jw_iconst (pc' := 413) (x := (1 : Int32)) rfl rfl ?_
          refine jw_goto (pc' := 417) rfl rfl ?_
          exact w_X8_called_417 hK353 w
    · replace w := w.2 c_5
      refine jw_iload (pc' := 378) rfl rfl ?_
      refine jw_bipush (pc' := 380) (x := (97 : Int32)) rfl rfl ?_
      refine jw_icmp_lt (tgt := 394) (pc' := 383) rfl rfl (fun c_8 => ?_) (fun c_8 => ?_)
      · replace w := w.1 c_8
        exact w_X8_called_394 hK353 w
      · replace w := w.2 c_8
        refine jw_iload (pc' := 385) rfl rfl ?_
        refine jw_bipush (pc' := 387) (x := (122 : Int32)) rfl rfl ?_
        refine jw_icmp_gt (tgt := 394) (pc' := 390) rfl rfl (fun c_9 => ?_) (fun c_9 => ?_)
        · replace w := w.1 c_9
          exact w_X8_called_394 hK353 w
        · replace w := w.2 c_9
          refine jw_iconst (pc' := 391) (x := (1 : Int32)) rfl rfl ?_
          refine jw_goto (pc' := 417) rfl rfl ?_
          exact w_X8_called_417 hK353 w
def L_X8_called_353 (D : JD) (d : Nat) (Q : JO → JH → Prop) : Nat → Nat → Nat → Nat → Int32 → Int32 → JH → Prop
  | 0 => fun _ _ _ _ _ _ => False
  | n + 1 => fun r0 r2 r5 x6 x7 h => W_X8_called_353 D d Q (L_X8_called_353 D d Q n) r0 r2 r5 x6 x7 h
theorem l_X8_called_353 {D : JD} {d : Nat} {Q : JO → JH → Prop} : ∀ (n : Nat) (r0 : Nat) (r2 : Nat) (r5 : Nat) (x6 : Int32) (x7 : Int32) (h : JH), L_X8_called_353 D d Q n r0 r2 r5 x6 x7 h → JW D (d + 1) mX8_called 353 [some (vR 41 r0), none, some (vR 46 r2), none, none, some (vR 46 r5), some (vI x6), some (vI x7), none, none] [] h Q := by
  intro n
  induction n with
  | zero => intro _ _ _ _ _ _ w; exact w.elim
  | succ n ih => intro _ _ _ _ _ h w; exact w_X8_called_353 ih w
def W_X8_called_329 (D : JD) (d : Nat) (Q : JO → JH → Prop) (K275 : Nat → Nat → Nat → Nat → Nat → Int32 → JH → Prop) (r0 : Nat) (r2 : Nat) (r3 : Nat) (r4 : Nat) (r5 : Nat) (x6 : Int32) (h : JH) : Prop :=
  K275 r0 r2 r3 r4 r5 (x6 + (1 : Int32)) h
theorem w_X8_called_329 {D : JD} {d : Nat} {Q : JO → JH → Prop} {K275 : Nat → Nat → Nat → Nat → Nat → Int32 → JH → Prop} {r0 : Nat} {r2 : Nat} {r3 : Nat} {r4 : Nat} {r5 : Nat} {x6 : Int32} {h : JH} (hK275 : ∀ (r0 : Nat) (r2 : Nat) (r3 : Nat) (r4 : Nat) (r5 : Nat) (x6 : Int32) (h : JH), K275 r0 r2 r3 r4 r5 x6 h → JW D (d + 1) mX8_called 275 [some (vR 41 r0), none, some (vR 46 r2), some (vR 46 r3), some (vR 46 r4), some (vR 46 r5), some (vI x6), none, none, none] [] h Q) (w : W_X8_called_329 D d Q K275 r0 r2 r3 r4 r5 x6 h) : JW D (d + 1) mX8_called 329 [some (vR 41 r0), none, some (vR 46 r2), some (vR 46 r3), some (vR 46 r4), some (vR 46 r5), some (vI x6), none, none, none] [] h Q := by
  unfold W_X8_called_329 at w
  refine jw_iinc (pc' := 332) (y := x6 + (1 : Int32)) (ls' := [some (vR 41 r0), none, some (vR 46 r2), some (vR 46 r3), some (vR 46 r4), some (vR 46 r5), some (vI (x6 + (1 : Int32))), none, none, none]) rfl (by decide) rfl rfl rfl ?_
  refine jw_goto (pc' := 275) rfl rfl ?_
  exact hK275 _ _ _ _ _ _ _ w
def W_X8_called_275 (D : JD) (d : Nat) (Q : JO → JH → Prop) (K275 : Nat → Nat → Nat → Nat → Nat → Int32 → JH → Prop) (r0 : Nat) (r2 : Nat) (r3 : Nat) (r4 : Nat) (r5 : Nat) (x6 : Int32) (h : JH) : Prop :=
  r2 ≠ 0 ∧ (((jfi h 268 r2) ≤ x6 → Q (.inl (some (vR 46 r5))) h) ∧ (¬ (jfi h 268 r2) ≤ x6 → r3 ≠ 0 ∧ (((lg_cmp ((Int32.toInt64 x6) + (1 : Int64)) (jfl h 267 r3)) < 0 → W_X8_called_329 D d Q K275 r0 r2 r3 r4 r5 x6 h) ∧ (¬ (lg_cmp ((Int32.toInt64 x6) + (1 : Int64)) (jfl h 267 r3)) < 0 → r4 ≠ 0 ∧ ((0 ≤ (lg_cmp ((Int32.toInt64 x6) + (1 : Int64)) ((jfl h 267 r3) + (jfl h 267 r4))) → W_X8_called_329 D d Q K275 r0 r2 r3 r4 r5 x6 h) ∧ (¬ 0 ≤ (lg_cmp ((Int32.toInt64 x6) + (1 : Int64)) ((jfl h 267 r3) + (jfl h 267 r4))) → (jfr h 269 r2) ≠ 0 ∧ jin x6 (jln h (jfr h 269 r2)) ∧ (r0 ≠ 0 ∧ (cX8_put_2 D d r0 r5 (jai h (jfr h 269 r2) (ixn x6)) h (pV D h (fun h_10 => W_X8_called_329 D d Q K275 r0 r2 r3 r4 r5 x6 h_10) (jth Q))))))))))
theorem w_X8_called_275 {D : JD} {d : Nat} {Q : JO → JH → Prop} {K275 : Nat → Nat → Nat → Nat → Nat → Int32 → JH → Prop} {r0 : Nat} {r2 : Nat} {r3 : Nat} {r4 : Nat} {r5 : Nat} {x6 : Int32} {h : JH} (hK275 : ∀ (r0 : Nat) (r2 : Nat) (r3 : Nat) (r4 : Nat) (r5 : Nat) (x6 : Int32) (h : JH), K275 r0 r2 r3 r4 r5 x6 h → JW D (d + 1) mX8_called 275 [some (vR 41 r0), none, some (vR 46 r2), some (vR 46 r3), some (vR 46 r4), some (vR 46 r5), some (vI x6), none, none, none] [] h Q) (w : W_X8_called_275 D d Q K275 r0 r2 r3 r4 r5 x6 h) : JW D (d + 1) mX8_called 275 [some (vR 41 r0), none, some (vR 46 r2), some (vR 46 r3), some (vR 46 r4), some (vR 46 r5), some (vI x6), none, none, none] [] h Q := by
  unfold W_X8_called_275 at w
  refine jw_iload (pc' := 277) rfl rfl ?_
  refine jw_aload_n (pc' := 278) rfl rfl ?_
  obtain ⟨g_1, w⟩ := w
  refine jw_getI (pc' := 281) (F := 268) rfl rfl rfl rfl g_1 ?_
  refine jw_icmp_ge (tgt := 335) (pc' := 284) rfl rfl (fun c_2 => ?_) (fun c_2 => ?_)
  · replace w := w.1 c_2
    refine jw_aload (pc' := 337) rfl rfl ?_
    exact jw_areturn rfl rfl rfl rfl rfl w
  · replace w := w.2 c_2
    refine jw_iload (pc' := 286) rfl rfl ?_
    refine jw_i2l (pc' := 287) rfl ?_
    refine jw_lconst (pc' := 288) (x := (1 : Int64)) rfl rfl ?_
    refine jw_ladd (pc' := 289) rfl ?_
    refine jw_aload_n (pc' := 290) rfl rfl ?_
    obtain ⟨g_3, w⟩ := w
    refine jw_getL (pc' := 293) (F := 267) rfl rfl rfl rfl g_3 ?_
    refine jw_lcmp (pc' := 294) rfl ?_
    refine jw_if_lt (tgt := 329) (pc' := 297) rfl rfl (fun c_4 => ?_) (fun c_4 => ?_)
    · replace w := w.1 c_4
      exact w_X8_called_329 hK275 w
    · replace w := w.2 c_4
      refine jw_iload (pc' := 299) rfl rfl ?_
      refine jw_i2l (pc' := 300) rfl ?_
      refine jw_lconst (pc' := 301) (x := (1 : Int64)) rfl rfl ?_
      refine jw_ladd (pc' := 302) rfl ?_
      refine jw_aload_n (pc' := 303) rfl rfl ?_
      refine jw_getL (pc' := 306) (F := 267) rfl rfl rfl rfl g_3 ?_
      refine jw_aload (pc' := 308) rfl rfl ?_
      obtain ⟨g_5, w⟩ := w
      refine jw_getL (pc' := 311) (F := 267) rfl rfl rfl rfl g_5 ?_
      refine jw_ladd (pc' := 312) rfl ?_
      refine jw_lcmp (pc' := 313) rfl ?_
      refine jw_if_ge (tgt := 329) (pc' := 316) rfl rfl (fun c_6 => ?_) (fun c_6 => ?_)
      · replace w := w.1 c_6
        exact w_X8_called_329 hK275 w
      · replace w := w.2 c_6
        refine jw_aload_n (pc' := 317) rfl rfl ?_
        refine jw_aload (pc' := 319) rfl rfl ?_
        refine jw_aload_n (pc' := 320) rfl rfl ?_
        refine jw_getR (pc' := 323) (F := 269) (t' := 197) rfl rfl rfl rfl rfl g_1 ?_
        refine jw_iload (pc' := 325) rfl rfl ?_
        obtain ⟨g_7, w⟩ := w
        obtain ⟨g_8, w⟩ := w
        refine jw_bald (pc' := 326) rfl rfl rfl rfl g_7 g_8.ix g_8.2 ?_
        obtain ⟨g_9, w⟩ := w
        refine jw_cV (st := []) (sa := [vR 41 r0, vR 46 r5, vI (jai h (jfr h 269 r2) (ixn x6))]) okX8_put_2 rfl rfl rfl rfl rfl rfl (jstp_virtual (sa := [vR 46 r5, vI (jai h (jfr h 269 r2) (ixn x6))]) (st := []) (k := 0) rfl rfl sX8_put_2 okX8_put_2 g_9 (one41.k g_9) rfl rfl) w (fun h_10 _ _ w => ?_)
        exact w_X8_called_329 hK275 w
def L_X8_called_275 (D : JD) (d : Nat) (Q : JO → JH → Prop) : Nat → Nat → Nat → Nat → Nat → Nat → Int32 → JH → Prop
  | 0 => fun _ _ _ _ _ _ _ => False
  | n + 1 => fun r0 r2 r3 r4 r5 x6 h => W_X8_called_275 D d Q (L_X8_called_275 D d Q n) r0 r2 r3 r4 r5 x6 h
theorem l_X8_called_275 {D : JD} {d : Nat} {Q : JO → JH → Prop} : ∀ (n : Nat) (r0 : Nat) (r2 : Nat) (r3 : Nat) (r4 : Nat) (r5 : Nat) (x6 : Int32) (h : JH), L_X8_called_275 D d Q n r0 r2 r3 r4 r5 x6 h → JW D (d + 1) mX8_called 275 [some (vR 41 r0), none, some (vR 46 r2), some (vR 46 r3), some (vR 46 r4), some (vR 46 r5), some (vI x6), none, none, none] [] h Q := by
  intro n
  induction n with
  | zero => intro _ _ _ _ _ _ _ w; exact w.elim
  | succ n ih => intro _ _ _ _ _ _ h w; exact w_X8_called_275 ih w
def W_X8_called_266 (D : JD) (d : Nat) (Q : JO → JH → Prop) (r0 : Nat) (r2 : Nat) (r3 : Nat) (r4 : Nat) (r5 : Nat) (q0 : Nat) (s1 : Int32) (h : JH) : Prop :=
  q0 ≠ 0 ∧ (cX8_must D d q0 s1 (jcs D 325) h (pV D h (fun h_2 => ∃ n, L_X8_called_275 D d Q n r0 r2 r3 r4 r5 (0 : Int32) h_2) (jth Q)))
theorem w_X8_called_266 {D : JD} {d : Nat} {Q : JO → JH → Prop} {r0 : Nat} {r2 : Nat} {r3 : Nat} {r4 : Nat} {r5 : Nat} {q0 : Nat} {s1 : Int32} {h : JH} (w : W_X8_called_266 D d Q r0 r2 r3 r4 r5 q0 s1 h) : JW D (d + 1) mX8_called 266 [some (vR 41 r0), none, some (vR 46 r2), some (vR 46 r3), some (vR 46 r4), some (vR 46 r5), none, none, none, none] [vI s1, vR 41 q0] h Q := by
  unfold W_X8_called_266 at w
  refine jw_ldcwS (pc' := 269) rfl rfl rfl rfl ?_
  obtain ⟨g_1, w⟩ := w
  refine jw_cV (st := []) (sa := [vR 41 q0, vI s1, vR 51 (jcs D 325)]) okX8_must rfl rfl rfl rfl rfl rfl (jstp_virtual (sa := [vI s1, vR 51 (jcs D 325)]) (st := []) (k := 0) rfl rfl sX8_must okX8_must g_1 (one41.k g_1) rfl rfl) w (fun h_2 _ _ w => ?_)
  refine jw_iconst (pc' := 273) (x := (0 : Int32)) rfl rfl ?_
  refine jw_istore (pc' := 275) (ls' := [some (vR 41 r0), none, some (vR 46 r2), some (vR 46 r3), some (vR 46 r4), some (vR 46 r5), some (vI (0 : Int32)), none, none, none]) rfl (by decide) rfl ?_
  obtain ⟨n, w⟩ := w
  exact l_X8_called_275 n _ _ _ _ _ _ _ w
def W_X8_called_150 (D : JD) (d : Nat) (Q : JO → JH → Prop) (q0 : Nat) (h : JH) : Prop :=
  Q (.inl (some (vR 46 q0))) h
theorem w_X8_called_150 {D : JD} {d : Nat} {Q : JO → JH → Prop} {q0 : Nat} {h : JH} (w : W_X8_called_150 D d Q q0 h) : JW D (d + 1) mX8_called 150 [none, none, none, none, none, none, none, none, none, none] [vR 46 q0] h Q := by
  unfold W_X8_called_150 at w
  exact jw_areturn rfl rfl rfl rfl rfl w
def W_X8_called_112 (D : JD) (d : Nat) (Q : JO → JH → Prop) (r0 : Nat) (r1 : Nat) (r2 : Nat) (r3 : Nat) (q0 : Nat) (h : JH) : Prop :=
  r1 ≠ 0 ∧ ((jfr h 307 r1) ≠ 0 ∧ (cJ5_equals D d (jfr h 307 r1) (jcs D 315) h (pI D h (fun v_5 h_3 => (v_5 = 0 → r2 ≠ 0 ∧ (((jfi h_3 266 r2) = 0 → W_X8_called_173 D d Q r0 h_3) ∧ (¬ (jfi h_3 266 r2) = 0 → r3 ≠ 0 ∧ (((jfi h_3 266 r3) = 0 → W_X8_called_173 D d Q r0 h_3) ∧ (¬ (jfi h_3 266 r3) = 0 → q0 ≠ 0 ∧ ((¬ (jfi h_3 266 q0) = 0 → (jfr h_3 307 r1) ≠ 0 ∧ (cJ5_equals D d (jfr h_3 307 r1) (jcs D 311) h_3 (pI D h_3 (fun v_16 h_14 => (v_16 = 0 → (jfr h_14 307 r1) ≠ 0 ∧ (cJ5_equals D d (jfr h_14 307 r1) (jcs D 312) h_14 (pI D h_14 (fun v_21 h_19 => (v_21 = 0 → r0 ≠ 0 ∧ (cX8_value D d r0 (25 : Int32) (0 : Int64) h_19 (pR D h_19 46 (fun v_26 h_24 => (jfr h_24 307 r1) ≠ 0 ∧ (cJ5_equals D d (jfr h_24 307 r1) (jcs D 316) h_24 (pI D h_24 (fun v_30 h_28 => (v_30 = 0 → (jfr h_28 307 r1) ≠ 0 ∧ (cJ5_equals D d (jfr h_28 307 r1) (jcs D 313) h_28 (pI D h_28 (fun v_35 h_33 => ∃ n, L_X8_called_353 D d Q n r0 r2 v_26 v_35 (0 : Int32) h_33) (jth Q)))) ∧ (¬ v_30 = 0 → ((lg_cmp (jfl h_28 267 q0) (0 : Int64)) < 0 → W_X8_called_266 D d Q r0 r2 r3 q0 v_26 r0 (0 : Int32) h_28) ∧ (¬ (lg_cmp (jfl h_28 267 q0) (0 : Int64)) < 0 → W_X8_called_266 D d Q r0 r2 r3 q0 v_26 r0 (1 : Int32) h_28))) (jth Q)))) (jth Q)))) ∧ (¬ v_21 = 0 → r0 ≠ 0 ∧ (cX8_number D d r0 (Int32.toInt64 (jfi h_19 268 r2)) h_19 (pR D h_19 46 (fun v_40 h_38 => Q (.inl (some (vR 46 v_40))) h_38) (jth Q))))) (jth Q)))) ∧ (¬ v_16 = 0 → cJ15_abs D d (jfl h_14 267 r2) h_14 (pL D h_14 (fun v_42 h_41 => r0 ≠ 0 ∧ (cX8_number D d r0 v_42 h_41 (pR D h_41 46 (fun v_46 h_44 => Q (.inl (some (vR 46 v_46))) h_44) (jth Q)))) (jth Q)))) (jth Q)))) ∧ ((jfi h_3 266 q0) = 0 → W_X8_called_173 D d Q r0 h_3))))))) ∧ (¬ v_5 = 0 → r0 ≠ 0 ∧ (cX8_told D d r0 (0 : Int32) r2 r3 h_3 (pR D h_3 46 (fun v_50 h_48 => cX8_isTrue D d v_50 h_48 (pI D h_48 (fun v_53 h_51 => (v_53 = 0 → W_X8_called_150 D d Q r2 h_51) ∧ (¬ v_53 = 0 → cX8_value D d r0 (0 : Int32) (0 : Int64) h_51 (pR D h_51 46 (fun v_57 h_55 => W_X8_called_150 D d Q v_57 h_55) (jth Q)))) (jth Q))) (jth Q))))) (jth Q))))
theorem w_X8_called_112 {D : JD} {d : Nat} {Q : JO → JH → Prop} {r0 : Nat} {r1 : Nat} {r2 : Nat} {r3 : Nat} {q0 : Nat} {h : JH} (w : W_X8_called_112 D d Q r0 r1 r2 r3 q0 h) : JW D (d + 1) mX8_called 112 [some (vR 41 r0), some (vR 48 r1), some (vR 46 r2), some (vR 46 r3), none, none, none, none, none, none] [vR 46 q0] h Q := by
  unfold W_X8_called_112 at w
  refine jw_astore (pc' := 114) (ls' := [some (vR 41 r0), some (vR 48 r1), some (vR 46 r2), some (vR 46 r3), some (vR 46 q0), none, none, none, none, none]) rfl (by decide) rfl ?_
  refine jw_aload_n (pc' := 115) rfl rfl ?_
  obtain ⟨g_1, w⟩ := w
  refine jw_getR (pc' := 118) (F := 307) (t' := 64) rfl rfl rfl rfl rfl g_1 ?_
  refine jw_ldcwS (pc' := 121) rfl rfl rfl rfl ?_
  obtain ⟨g_2, w⟩ := w
  refine jw_cI (st := []) (sa := [vR 64 (jfr h 307 r1), vR 51 (jcs D 315)]) okJ5_equals rfl rfl rfl rfl rfl rfl (jstp_virtual (sa := [vR 51 (jcs D 315)]) (st := []) (k := 0) rfl rfl sJ5_equals okJ5_equals g_2 (one64.k g_2) rfl rfl) w (fun v_5 h_3 _ _ w => ?_)
  refine jw_if_eq (tgt := 151) (pc' := 127) rfl rfl (fun c_6 => ?_) (fun c_6 => ?_)
  · replace w := w.1 c_6
    refine jw_aload_n (pc' := 152) rfl rfl ?_
    obtain ⟨g_7, w⟩ := w
    refine jw_getI (pc' := 155) (F := 266) rfl rfl rfl rfl g_7 ?_
    refine jw_if_eq (tgt := 173) (pc' := 158) rfl rfl (fun c_8 => ?_) (fun c_8 => ?_)
    · replace w := w.1 c_8
      refine jw_gen (ls' := [some (vR 41 r0), none, none, none, none, none, none, none, none, none]) (st' := []) (And.intro (Or.inl rfl) (trivial)) (trivial) ?_
      exact w_X8_called_173 w
    · replace w := w.2 c_8
      refine jw_aload_n (pc' := 159) rfl rfl ?_
      obtain ⟨g_9, w⟩ := w
      refine jw_getI (pc' := 162) (F := 266) rfl rfl rfl rfl g_9 ?_
      refine jw_if_eq (tgt := 173) (pc' := 165) rfl rfl (fun c_10 => ?_) (fun c_10 => ?_)
      · replace w := w.1 c_10
        refine jw_gen (ls' := [some (vR 41 r0), none, none, none, none, none, none, none, none, none]) (st' := []) (And.intro (Or.inl rfl) (trivial)) (trivial) ?_
        exact w_X8_called_173 w
      · replace w := w.2 c_10
        refine jw_aload (pc' := 167) rfl rfl ?_
        obtain ⟨g_11, w⟩ := w
        refine jw_getI (pc' := 170) (F := 266) rfl rfl rfl rfl g_11 ?_
        refine jw_if_ne (tgt := 180) (pc' := 173) rfl rfl (fun c_12 => ?_) (fun c_12 => ?_)
        · replace w := w.1 c_12
          refine jw_aload_n (pc' := 181) rfl rfl ?_
          refine jw_getR (pc' := 184) (F := 307) (t' := 64) rfl rfl rfl rfl rfl g_1 ?_
          refine jw_ldcwS (pc' := 187) rfl rfl rfl rfl ?_
          obtain ⟨g_13, w⟩ := w
          refine jw_cI (st := []) (sa := [vR 64 (jfr h_3 307 r1), vR 51 (jcs D 311)]) okJ5_equals rfl rfl rfl rfl rfl rfl (jstp_virtual (sa := [vR 51 (jcs D 311)]) (st := []) (k := 0) rfl rfl sJ5_equals okJ5_equals g_13 (one64.k g_13) rfl rfl) w (fun v_16 h_14 _ _ w => ?_)
          refine jw_if_eq (tgt := 205) (pc' := 193) rfl rfl (fun c_17 => ?_) (fun c_17 => ?_)
          · replace w := w.1 c_17
            refine jw_aload_n (pc' := 206) rfl rfl ?_
            refine jw_getR (pc' := 209) (F := 307) (t' := 64) rfl rfl rfl rfl rfl g_1 ?_
            refine jw_ldcwS (pc' := 212) rfl rfl rfl rfl ?_
            obtain ⟨g_18, w⟩ := w
            refine jw_cI (st := []) (sa := [vR 64 (jfr h_14 307 r1), vR 51 (jcs D 312)]) okJ5_equals rfl rfl rfl rfl rfl rfl (jstp_virtual (sa := [vR 51 (jcs D 312)]) (st := []) (k := 0) rfl rfl sJ5_equals okJ5_equals g_18 (one64.k g_18) rfl rfl) w (fun v_21 h_19 _ _ w => ?_)
            refine jw_if_eq (tgt := 228) (pc' := 218) rfl rfl (fun c_22 => ?_) (fun c_22 => ?_)
            · replace w := w.1 c_22
              refine jw_aload_n (pc' := 229) rfl rfl ?_
              refine jw_bipush (pc' := 231) (x := (25 : Int32)) rfl rfl ?_
              refine jw_lconst (pc' := 232) (x := (0 : Int64)) rfl rfl ?_
              obtain ⟨g_23, w⟩ := w
              refine jw_cR (st := []) (sa := [vR 41 r0, vI (25 : Int32), vL (0 : Int64)]) okX8_value rfl rfl rfl rfl rfl rfl (jstp_virtual (sa := [vI (25 : Int32), vL (0 : Int64)]) (st := []) (k := 0) rfl rfl sX8_value okX8_value g_23 (one41.k g_23) rfl rfl) w (fun v_26 h_24 _ _ _ w => ?_)
              refine jw_astore (pc' := 237) (ls' := [some (vR 41 r0), some (vR 48 r1), some (vR 46 r2), some (vR 46 r3), some (vR 46 q0), some (vR 46 v_26), none, none, none, none]) rfl (by decide) rfl ?_
              refine jw_aload_n (pc' := 238) rfl rfl ?_
              refine jw_getR (pc' := 241) (F := 307) (t' := 64) rfl rfl rfl rfl rfl g_1 ?_
              refine jw_ldcwS (pc' := 244) rfl rfl rfl rfl ?_
              obtain ⟨g_27, w⟩ := w
              refine jw_cI (st := []) (sa := [vR 64 (jfr h_24 307 r1), vR 51 (jcs D 316)]) okJ5_equals rfl rfl rfl rfl rfl rfl (jstp_virtual (sa := [vR 51 (jcs D 316)]) (st := []) (k := 0) rfl rfl sJ5_equals okJ5_equals g_27 (one64.k g_27) rfl rfl) w (fun v_30 h_28 _ _ w => ?_)
              refine jw_if_eq (tgt := 338) (pc' := 250) rfl rfl (fun c_31 => ?_) (fun c_31 => ?_)
              · replace w := w.1 c_31
                refine jw_aload_n (pc' := 339) rfl rfl ?_
                refine jw_getR (pc' := 342) (F := 307) (t' := 64) rfl rfl rfl rfl rfl g_1 ?_
                refine jw_ldcwS (pc' := 345) rfl rfl rfl rfl ?_
                obtain ⟨g_32, w⟩ := w
                refine jw_cI (st := []) (sa := [vR 64 (jfr h_28 307 r1), vR 51 (jcs D 313)]) okJ5_equals rfl rfl rfl rfl rfl rfl (jstp_virtual (sa := [vR 51 (jcs D 313)]) (st := []) (k := 0) rfl rfl sJ5_equals okJ5_equals g_32 (one64.k g_32) rfl rfl) w (fun v_35 h_33 _ _ w => ?_)
                refine jw_istore (pc' := 350) (ls' := [some (vR 41 r0), some (vR 48 r1), some (vR 46 r2), some (vR 46 r3), some (vR 46 q0), some (vR 46 v_26), some (vI v_35), none, none, none]) rfl (by decide) rfl ?_
                refine jw_iconst (pc' := 351) (x := (0 : Int32)) rfl rfl ?_
                refine jw_istore (pc' := 353) (ls' := [some (vR 41 r0), some (vR 48 r1), some (vR 46 r2), some (vR 46 r3), some (vR 46 q0), some (vR 46 v_26), some (vI v_35), some (vI (0 : Int32)), none, none]) rfl (by decide) rfl ?_
                refine jw_gen (ls' := [some (vR 41 r0), none, some (vR 46 r2), none, none, some (vR 46 v_26), some (vI v_35), some (vI (0 : Int32)), none, none]) (st' := []) (And.intro (Or.inl rfl) (And.intro (Or.inl rfl) (And.intro (Or.inl rfl) (And.intro (Or.inl rfl) (And.intro (Or.inl rfl) (trivial)))))) (trivial) ?_
                obtain ⟨n, w⟩ := w
                exact l_X8_called_353 n _ _ _ _ _ _ w
              · replace w := w.2 c_31
                refine jw_aload_n (pc' := 251) rfl rfl ?_
                refine jw_aload (pc' := 253) rfl rfl ?_
                refine jw_getL (pc' := 256) (F := 267) rfl rfl rfl rfl g_11 ?_
                refine jw_lconst (pc' := 257) (x := (0 : Int64)) rfl rfl ?_
                refine jw_lcmp (pc' := 258) rfl ?_
                refine jw_if_lt (tgt := 265) (pc' := 261) rfl rfl (fun c_36 => ?_) (fun c_36 => ?_)
                · replace w := w.1 c_36
                  refine jw_iconst (pc' := 266) (x := (0 : Int32)) rfl rfl ?_
                  refine jw_gen (ls' := [some (vR 41 r0), none, some (vR 46 r2), some (vR 46 r3), some (vR 46 q0), some (vR 46 v_26), none, none, none, none]) (st' := [vI (0 : Int32), vR 41 r0]) (And.intro (Or.inl rfl) (And.intro (Or.inl rfl) (And.intro (Or.inl rfl) (And.intro (Or.inl rfl) (And.intro (Or.inl rfl) (trivial)))))) (And.intro (Or.inl rfl) (And.intro (Or.inl rfl) (trivial))) ?_
                  exact w_X8_called_266 w
                · replace w := w.2 c_36
                  refine jw_iconst (pc' := 262) (x := (1 : Int32)) rfl rfl ?_
                  refine jw_goto (pc' := 266) rfl rfl ?_
                  refine jw_gen (ls' := [some (vR 41 r0), none, some (vR 46 r2), some (vR 46 r3), some (vR 46 q0), some (vR 46 v_26), none, none, none, none]) (st' := [vI (1 : Int32), vR 41 r0]) (And.intro (Or.inl rfl) (And.intro (Or.inl rfl) (And.intro (Or.inl rfl) (And.intro (Or.inl rfl) (And.intro (Or.inl rfl) (trivial)))))) (And.intro (Or.inl rfl) (And.intro (Or.inl rfl) (trivial))) ?_
                  exact w_X8_called_266 w
            · replace w := w.2 c_22
              refine jw_aload_n (pc' := 219) rfl rfl ?_
              refine jw_aload_n (pc' := 220) rfl rfl ?_
              refine jw_getI (pc' := 223) (F := 268) rfl rfl rfl rfl g_7 ?_
              refine jw_i2l (pc' := 224) rfl ?_
              obtain ⟨g_37, w⟩ := w
              refine jw_cR (st := []) (sa := [vR 41 r0, vL (Int32.toInt64 (jfi h_19 268 r2))]) okX8_number rfl rfl rfl rfl rfl rfl (jstp_virtual (sa := [vL (Int32.toInt64 (jfi h_19 268 r2))]) (st := []) (k := 0) rfl rfl sX8_number okX8_number g_37 (one41.k g_37) rfl rfl) w (fun v_40 h_38 _ _ _ w => ?_)
              exact jw_areturn rfl rfl rfl rfl rfl w
          · replace w := w.2 c_17
            refine jw_aload_n (pc' := 194) rfl rfl ?_
            refine jw_aload_n (pc' := 195) rfl rfl ?_
            refine jw_getL (pc' := 198) (F := 267) rfl rfl rfl rfl g_7 ?_
            refine jw_cL (st := [vR 41 r0]) (sa := [vL (jfl h_14 267 r2)]) okJ15_abs rfl rfl rfl rfl rfl rfl (jstp_static (sa := [vL (jfl h_14 267 r2)]) (st := [vR 41 r0]) rfl rfl sJ15_abs okJ15_abs rfl rfl) w (fun v_42 h_41 _ _ w => ?_)
            obtain ⟨g_43, w⟩ := w
            refine jw_cR (st := []) (sa := [vR 41 r0, vL v_42]) okX8_number rfl rfl rfl rfl rfl rfl (jstp_virtual (sa := [vL v_42]) (st := []) (k := 0) rfl rfl sX8_number okX8_number g_43 (one41.k g_43) rfl rfl) w (fun v_46 h_44 _ _ _ w => ?_)
            exact jw_areturn rfl rfl rfl rfl rfl w
        · replace w := w.2 c_12
          refine jw_gen (ls' := [some (vR 41 r0), none, none, none, none, none, none, none, none, none]) (st' := []) (And.intro (Or.inl rfl) (trivial)) (trivial) ?_
          exact w_X8_called_173 w
  · replace w := w.2 c_6
    refine jw_aload_n (pc' := 128) rfl rfl ?_
    refine jw_iconst (pc' := 129) (x := (0 : Int32)) rfl rfl ?_
    refine jw_aload_n (pc' := 130) rfl rfl ?_
    refine jw_aload_n (pc' := 131) rfl rfl ?_
    obtain ⟨g_47, w⟩ := w
    refine jw_cR (st := []) (sa := [vR 41 r0, vI (0 : Int32), vR 46 r2, vR 46 r3]) okX8_told rfl rfl rfl rfl rfl rfl (jstp_virtual (sa := [vI (0 : Int32), vR 46 r2, vR 46 r3]) (st := []) (k := 0) rfl rfl sX8_told okX8_told g_47 (one41.k g_47) rfl rfl) w (fun v_50 h_48 _ _ _ w => ?_)
    refine jw_cI (st := []) (sa := [vR 46 v_50]) okX8_isTrue rfl rfl rfl rfl rfl rfl (jstp_static (sa := [vR 46 v_50]) (st := []) rfl rfl sX8_isTrue okX8_isTrue rfl rfl) w (fun v_53 h_51 _ _ w => ?_)
    refine jw_if_eq (tgt := 149) (pc' := 140) rfl rfl (fun c_54 => ?_) (fun c_54 => ?_)
    · replace w := w.1 c_54
      refine jw_aload_n (pc' := 150) rfl rfl ?_
      refine jw_gen (ls' := [none, none, none, none, none, none, none, none, none, none]) (st' := [vR 46 r2]) (trivial) (And.intro (Or.inl rfl) (trivial)) ?_
      exact w_X8_called_150 w
    · replace w := w.2 c_54
      refine jw_aload_n (pc' := 141) rfl rfl ?_
      refine jw_iconst (pc' := 142) (x := (0 : Int32)) rfl rfl ?_
      refine jw_lconst (pc' := 143) (x := (0 : Int64)) rfl rfl ?_
      refine jw_cR (st := []) (sa := [vR 41 r0, vI (0 : Int32), vL (0 : Int64)]) okX8_value rfl rfl rfl rfl rfl rfl (jstp_virtual (sa := [vI (0 : Int32), vL (0 : Int64)]) (st := []) (k := 0) rfl rfl sX8_value okX8_value g_47 (one41.k g_47) rfl rfl) w (fun v_57 h_55 _ _ _ w => ?_)
      refine jw_goto (pc' := 150) rfl rfl ?_
      refine jw_gen (ls' := [none, none, none, none, none, none, none, none, none, none]) (st' := [vR 46 v_57]) (trivial) (And.intro (Or.inl rfl) (trivial)) ?_
      exact w_X8_called_150 w
def W_X8_called_89 (D : JD) (d : Nat) (Q : JO → JH → Prop) (r0 : Nat) (r1 : Nat) (r2 : Nat) (q0 : Nat) (h : JH) : Prop :=
  r1 ≠ 0 ∧ (((jfi h 311 r1) ≤ (2 : Int32) → W_X8_called_112 D d Q r0 r1 r2 q0 r2 h) ∧ (¬ (jfi h 311 r1) ≤ (2 : Int32) → (jfr h 310 r1) ≠ 0 ∧ jin (2 : Int32) (jln h (jfr h 310 r1)) ∧ (r0 ≠ 0 ∧ (cX8_eval D d r0 (jar h (jfr h 310 r1) (ixn (2 : Int32))) h (pR D h 46 (fun v_8 h_6 => W_X8_called_112 D d Q r0 r1 r2 q0 v_8 h_6) (jth Q))))))
theorem w_X8_called_89 {D : JD} {d : Nat} {Q : JO → JH → Prop} {r0 : Nat} {r1 : Nat} {r2 : Nat} {q0 : Nat} {h : JH} (w : W_X8_called_89 D d Q r0 r1 r2 q0 h) : JW D (d + 1) mX8_called 89 [some (vR 41 r0), some (vR 48 r1), some (vR 46 r2), none, none, none, none, none, none, none] [vR 46 q0] h Q := by
  unfold W_X8_called_89 at w
  refine jw_astore_n (pc' := 90) (ls' := [some (vR 41 r0), some (vR 48 r1), some (vR 46 r2), some (vR 46 q0), none, none, none, none, none, none]) rfl (by decide) rfl ?_
  refine jw_aload_n (pc' := 91) rfl rfl ?_
  obtain ⟨g_1, w⟩ := w
  refine jw_getI (pc' := 94) (F := 311) rfl rfl rfl rfl g_1 ?_
  refine jw_iconst (pc' := 95) (x := (2 : Int32)) rfl rfl ?_
  refine jw_icmp_le (tgt := 111) (pc' := 98) rfl rfl (fun c_2 => ?_) (fun c_2 => ?_)
  · replace w := w.1 c_2
    refine jw_aload_n (pc' := 112) rfl rfl ?_
    exact w_X8_called_112 w
  · replace w := w.2 c_2
    refine jw_aload_n (pc' := 99) rfl rfl ?_
    refine jw_aload_n (pc' := 100) rfl rfl ?_
    refine jw_getR (pc' := 103) (F := 310) (t' := 215) rfl rfl rfl rfl rfl g_1 ?_
    refine jw_iconst (pc' := 104) (x := (2 : Int32)) rfl rfl ?_
    obtain ⟨g_3, w⟩ := w
    obtain ⟨g_4, w⟩ := w
    refine jw_aald (pc' := 105) (t' := 48) rfl rfl rfl rfl g_3 g_4.ix g_4.2 ?_
    obtain ⟨g_5, w⟩ := w
    refine jw_cR (st := []) (sa := [vR 41 r0, vR 48 (jar h (jfr h 310 r1) (ixn (2 : Int32)))]) okX8_eval rfl rfl rfl rfl rfl rfl (jstp_virtual (sa := [vR 48 (jar h (jfr h 310 r1) (ixn (2 : Int32)))]) (st := []) (k := 0) rfl rfl sX8_eval okX8_eval g_5 (one41.k g_5) rfl rfl) w (fun v_8 h_6 _ _ _ w => ?_)
    refine jw_goto (pc' := 112) rfl rfl ?_
    exact w_X8_called_112 w
def W_X8_called_15 (D : JD) (d : Nat) (Q : JO → JH → Prop) (K15 : Nat → Nat → Int32 → JH → Prop) (r0 : Nat) (r1 : Nat) (x2 : Int32) (h : JH) : Prop :=
  r1 ≠ 0 ∧ (((jfi h 311 r1) ≤ x2 → r0 ≠ 0 ∧ (cX8_value D d r0 (0 : Int32) (0 : Int64) h (pR D h 46 (fun v_6 h_4 => Q (.inl (some (vR 46 v_6))) h_4) (jth Q)))) ∧ (¬ (jfi h 311 r1) ≤ x2 → (jfr h 310 r1) ≠ 0 ∧ jin x2 (jln h (jfr h 310 r1)) ∧ (r0 ≠ 0 ∧ (cX8_eval D d r0 (jar h (jfr h 310 r1) (ixn x2)) h (pR D h 46 (fun v_12 h_10 => v_12 ≠ 0 ∧ (((jfi h_10 266 v_12) = 0 → K15 r0 r1 (x2 + (1 : Int32)) h_10) ∧ (¬ (jfi h_10 266 v_12) = 0 → Q (.inl (some (vR 46 v_12))) h_10))) (jth Q))))))
theorem w_X8_called_15 {D : JD} {d : Nat} {Q : JO → JH → Prop} {K15 : Nat → Nat → Int32 → JH → Prop} {r0 : Nat} {r1 : Nat} {x2 : Int32} {h : JH} (hK15 : ∀ (r0 : Nat) (r1 : Nat) (x2 : Int32) (h : JH), K15 r0 r1 x2 h → JW D (d + 1) mX8_called 15 [some (vR 41 r0), some (vR 48 r1), some (vI x2), none, none, none, none, none, none, none] [] h Q) (w : W_X8_called_15 D d Q K15 r0 r1 x2 h) : JW D (d + 1) mX8_called 15 [some (vR 41 r0), some (vR 48 r1), some (vI x2), none, none, none, none, none, none, none] [] h Q := by
  unfold W_X8_called_15 at w
  refine jw_iload_n (pc' := 16) rfl rfl ?_
  refine jw_aload_n (pc' := 17) rfl rfl ?_
  obtain ⟨g_1, w⟩ := w
  refine jw_getI (pc' := 20) (F := 311) rfl rfl rfl rfl g_1 ?_
  refine jw_icmp_ge (tgt := 49) (pc' := 23) rfl rfl (fun c_2 => ?_) (fun c_2 => ?_)
  · replace w := w.1 c_2
    refine jw_aload_n (pc' := 50) rfl rfl ?_
    refine jw_iconst (pc' := 51) (x := (0 : Int32)) rfl rfl ?_
    refine jw_lconst (pc' := 52) (x := (0 : Int64)) rfl rfl ?_
    obtain ⟨g_3, w⟩ := w
    refine jw_cR (st := []) (sa := [vR 41 r0, vI (0 : Int32), vL (0 : Int64)]) okX8_value rfl rfl rfl rfl rfl rfl (jstp_virtual (sa := [vI (0 : Int32), vL (0 : Int64)]) (st := []) (k := 0) rfl rfl sX8_value okX8_value g_3 (one41.k g_3) rfl rfl) w (fun v_6 h_4 _ _ _ w => ?_)
    exact jw_areturn rfl rfl rfl rfl rfl w
  · replace w := w.2 c_2
    refine jw_aload_n (pc' := 24) rfl rfl ?_
    refine jw_aload_n (pc' := 25) rfl rfl ?_
    refine jw_getR (pc' := 28) (F := 310) (t' := 215) rfl rfl rfl rfl rfl g_1 ?_
    refine jw_iload_n (pc' := 29) rfl rfl ?_
    obtain ⟨g_7, w⟩ := w
    obtain ⟨g_8, w⟩ := w
    refine jw_aald (pc' := 30) (t' := 48) rfl rfl rfl rfl g_7 g_8.ix g_8.2 ?_
    obtain ⟨g_9, w⟩ := w
    refine jw_cR (st := []) (sa := [vR 41 r0, vR 48 (jar h (jfr h 310 r1) (ixn x2))]) okX8_eval rfl rfl rfl rfl rfl rfl (jstp_virtual (sa := [vR 48 (jar h (jfr h 310 r1) (ixn x2))]) (st := []) (k := 0) rfl rfl sX8_eval okX8_eval g_9 (one41.k g_9) rfl rfl) w (fun v_12 h_10 _ _ _ w => ?_)
    refine jw_astore_n (pc' := 34) (ls' := [some (vR 41 r0), some (vR 48 r1), some (vI x2), some (vR 46 v_12), none, none, none, none, none, none]) rfl (by decide) rfl ?_
    refine jw_aload_n (pc' := 35) rfl rfl ?_
    obtain ⟨g_13, w⟩ := w
    refine jw_getI (pc' := 38) (F := 266) rfl rfl rfl rfl g_13 ?_
    refine jw_if_eq (tgt := 43) (pc' := 41) rfl rfl (fun c_14 => ?_) (fun c_14 => ?_)
    · replace w := w.1 c_14
      refine jw_iinc (pc' := 46) (y := x2 + (1 : Int32)) (ls' := [some (vR 41 r0), some (vR 48 r1), some (vI (x2 + (1 : Int32))), some (vR 46 v_12), none, none, none, none, none, none]) rfl (by decide) rfl rfl rfl ?_
      refine jw_goto (pc' := 15) rfl rfl ?_
      refine jw_gen (ls' := [some (vR 41 r0), some (vR 48 r1), some (vI (x2 + (1 : Int32))), none, none, none, none, none, none, none]) (st' := []) (And.intro (Or.inl rfl) (And.intro (Or.inl rfl) (And.intro (Or.inl rfl) (trivial)))) (trivial) ?_
      exact hK15 _ _ _ _ w
    · replace w := w.2 c_14
      refine jw_aload_n (pc' := 42) rfl rfl ?_
      exact jw_areturn rfl rfl rfl rfl rfl w
def L_X8_called_15 (D : JD) (d : Nat) (Q : JO → JH → Prop) : Nat → Nat → Nat → Int32 → JH → Prop
  | 0 => fun _ _ _ _ => False
  | n + 1 => fun r0 r1 x2 h => W_X8_called_15 D d Q (L_X8_called_15 D d Q n) r0 r1 x2 h
theorem l_X8_called_15 {D : JD} {d : Nat} {Q : JO → JH → Prop} : ∀ (n : Nat) (r0 : Nat) (r1 : Nat) (x2 : Int32) (h : JH), L_X8_called_15 D d Q n r0 r1 x2 h → JW D (d + 1) mX8_called 15 [some (vR 41 r0), some (vR 48 r1), some (vI x2), none, none, none, none, none, none, none] [] h Q := by
  intro n
  induction n with
  | zero => intro _ _ _ _ w; exact w.elim
  | succ n ih => intro _ _ _ h w; exact w_X8_called_15 ih w
def W_X8_called_0 (D : JD) (d : Nat) (Q : JO → JH → Prop) (r0 : Nat) (r1 : Nat) (h : JH) : Prop :=
  r1 ≠ 0 ∧ ((jfr h 307 r1) ≠ 0 ∧ (cJ5_equals D d (jfr h 307 r1) (jcs D 317) h (pI D h (fun v_5 h_3 => (v_5 = 0 → (jfr h_3 310 r1) ≠ 0 ∧ jin (0 : Int32) (jln h_3 (jfr h_3 310 r1)) ∧ (r0 ≠ 0 ∧ (cX8_eval D d r0 (jar h_3 (jfr h_3 310 r1) (ixn (0 : Int32))) h_3 (pR D h_3 46 (fun v_12 h_10 => ((jfi h_10 311 r1) ≤ (1 : Int32) → W_X8_called_89 D d Q r0 r1 v_12 v_12 h_10) ∧ (¬ (jfi h_10 311 r1) ≤ (1 : Int32) → (jfr h_10 310 r1) ≠ 0 ∧ jin (1 : Int32) (jln h_10 (jfr h_10 310 r1)) ∧ (cX8_eval D d r0 (jar h_10 (jfr h_10 310 r1) (ixn (1 : Int32))) h_10 (pR D h_10 46 (fun v_18 h_16 => W_X8_called_89 D d Q r0 r1 v_12 v_18 h_16) (jth Q))))) (jth Q))))) ∧ (¬ v_5 = 0 → ∃ n, L_X8_called_15 D d Q n r0 r1 (0 : Int32) h_3)) (jth Q))))
theorem w_X8_called_0 {D : JD} {d : Nat} {Q : JO → JH → Prop} {r0 : Nat} {r1 : Nat} {h : JH} (w : W_X8_called_0 D d Q r0 r1 h) : JW D (d + 1) mX8_called 0 [some (vR 41 r0), some (vR 48 r1), none, none, none, none, none, none, none, none] [] h Q := by
  unfold W_X8_called_0 at w
  refine jw_aload_n (pc' := 1) rfl rfl ?_
  obtain ⟨g_1, w⟩ := w
  refine jw_getR (pc' := 4) (F := 307) (t' := 64) rfl rfl rfl rfl rfl g_1 ?_
  refine jw_ldcwS (pc' := 7) rfl rfl rfl rfl ?_
  obtain ⟨g_2, w⟩ := w
  refine jw_cI (st := []) (sa := [vR 64 (jfr h 307 r1), vR 51 (jcs D 317)]) okJ5_equals rfl rfl rfl rfl rfl rfl (jstp_virtual (sa := [vR 51 (jcs D 317)]) (st := []) (k := 0) rfl rfl sJ5_equals okJ5_equals g_2 (one64.k g_2) rfl rfl) w (fun v_5 h_3 _ _ w => ?_)
  refine jw_if_eq (tgt := 56) (pc' := 13) rfl rfl (fun c_6 => ?_) (fun c_6 => ?_)
  · replace w := w.1 c_6
    refine jw_aload_n (pc' := 57) rfl rfl ?_
    refine jw_aload_n (pc' := 58) rfl rfl ?_
    refine jw_getR (pc' := 61) (F := 310) (t' := 215) rfl rfl rfl rfl rfl g_1 ?_
    refine jw_iconst (pc' := 62) (x := (0 : Int32)) rfl rfl ?_
    obtain ⟨g_7, w⟩ := w
    obtain ⟨g_8, w⟩ := w
    refine jw_aald (pc' := 63) (t' := 48) rfl rfl rfl rfl g_7 g_8.ix g_8.2 ?_
    obtain ⟨g_9, w⟩ := w
    refine jw_cR (st := []) (sa := [vR 41 r0, vR 48 (jar h_3 (jfr h_3 310 r1) (ixn (0 : Int32)))]) okX8_eval rfl rfl rfl rfl rfl rfl (jstp_virtual (sa := [vR 48 (jar h_3 (jfr h_3 310 r1) (ixn (0 : Int32)))]) (st := []) (k := 0) rfl rfl sX8_eval okX8_eval g_9 (one41.k g_9) rfl rfl) w (fun v_12 h_10 _ _ _ w => ?_)
    refine jw_astore_n (pc' := 67) (ls' := [some (vR 41 r0), some (vR 48 r1), some (vR 46 v_12), none, none, none, none, none, none, none]) rfl (by decide) rfl ?_
    refine jw_aload_n (pc' := 68) rfl rfl ?_
    refine jw_getI (pc' := 71) (F := 311) rfl rfl rfl rfl g_1 ?_
    refine jw_iconst (pc' := 72) (x := (1 : Int32)) rfl rfl ?_
    refine jw_icmp_le (tgt := 88) (pc' := 75) rfl rfl (fun c_13 => ?_) (fun c_13 => ?_)
    · replace w := w.1 c_13
      refine jw_aload_n (pc' := 89) rfl rfl ?_
      exact w_X8_called_89 w
    · replace w := w.2 c_13
      refine jw_aload_n (pc' := 76) rfl rfl ?_
      refine jw_aload_n (pc' := 77) rfl rfl ?_
      refine jw_getR (pc' := 80) (F := 310) (t' := 215) rfl rfl rfl rfl rfl g_1 ?_
      refine jw_iconst (pc' := 81) (x := (1 : Int32)) rfl rfl ?_
      obtain ⟨g_14, w⟩ := w
      obtain ⟨g_15, w⟩ := w
      refine jw_aald (pc' := 82) (t' := 48) rfl rfl rfl rfl g_14 g_15.ix g_15.2 ?_
      refine jw_cR (st := []) (sa := [vR 41 r0, vR 48 (jar h_10 (jfr h_10 310 r1) (ixn (1 : Int32)))]) okX8_eval rfl rfl rfl rfl rfl rfl (jstp_virtual (sa := [vR 48 (jar h_10 (jfr h_10 310 r1) (ixn (1 : Int32)))]) (st := []) (k := 0) rfl rfl sX8_eval okX8_eval g_9 (one41.k g_9) rfl rfl) w (fun v_18 h_16 _ _ _ w => ?_)
      refine jw_goto (pc' := 89) rfl rfl ?_
      exact w_X8_called_89 w
  · replace w := w.2 c_6
    refine jw_iconst (pc' := 14) (x := (0 : Int32)) rfl rfl ?_
    refine jw_istore_n (pc' := 15) (ls' := [some (vR 41 r0), some (vR 48 r1), some (vI (0 : Int32)), none, none, none, none, none, none, none]) rfl (by decide) rfl ?_
    obtain ⟨n, w⟩ := w
    exact l_X8_called_15 n _ _ _ _ w
def T_X8_called (D : JD) (d : Nat) (Q : JO → JH → Prop) (r0 : Nat) (r1 : Nat) (h : JH) : Prop := W_X8_called_0 D d Q r0 r1 h
theorem t_X8_called {D : JD} {d : Nat} {Q : JO → JH → Prop} {r0 : Nat} {r1 : Nat} {h : JH} (w : T_X8_called D d Q r0 r1 h) : cX8_called D (d + 1) r0 r1 h Q := by
  unfold T_X8_called at w
  unfold cX8_called
  exact w_X8_called_0 w
def W_X8_told_14 (D : JD) (d : Nat) (Q : JO → JH → Prop) (r0 : Nat) (h : JH) : Prop :=
  r0 ≠ 0 ∧ (cX8_value D d r0 (0 : Int32) (0 : Int64) h (pR D h 46 (fun v_4 h_2 => Q (.inl (some (vR 46 v_4))) h_2) (jth Q)))
theorem w_X8_told_14 {D : JD} {d : Nat} {Q : JO → JH → Prop} {r0 : Nat} {h : JH} (w : W_X8_told_14 D d Q r0 h) : JW D (d + 1) mX8_told 14 [some (vR 41 r0), none, none, none, none] [] h Q := by
  unfold W_X8_told_14 at w
  refine jw_aload_n (pc' := 15) rfl rfl ?_
  refine jw_iconst (pc' := 16) (x := (0 : Int32)) rfl rfl ?_
  refine jw_lconst (pc' := 17) (x := (0 : Int64)) rfl rfl ?_
  obtain ⟨g_1, w⟩ := w
  refine jw_cR (st := []) (sa := [vR 41 r0, vI (0 : Int32), vL (0 : Int64)]) okX8_value rfl rfl rfl rfl rfl rfl (jstp_virtual (sa := [vI (0 : Int32), vL (0 : Int64)]) (st := []) (k := 0) rfl rfl sX8_value okX8_value g_1 (one41.k g_1) rfl rfl) w (fun v_4 h_2 _ _ _ w => ?_)
  exact jw_areturn rfl rfl rfl rfl rfl w
def W_X8_told_128 (D : JD) (d : Nat) (Q : JO → JH → Prop) (q0 : Nat) (s1 : Int32) (h : JH) : Prop :=
  q0 ≠ 0 ∧ (cX8_truth D d q0 s1 h (pR D h 46 (fun v_4 h_2 => Q (.inl (some (vR 46 v_4))) h_2) (jth Q)))
theorem w_X8_told_128 {D : JD} {d : Nat} {Q : JO → JH → Prop} {q0 : Nat} {s1 : Int32} {h : JH} (w : W_X8_told_128 D d Q q0 s1 h) : JW D (d + 1) mX8_told 128 [none, none, none, none, none] [vI s1, vR 41 q0] h Q := by
  unfold W_X8_told_128 at w
  obtain ⟨g_1, w⟩ := w
  refine jw_cR (st := []) (sa := [vR 41 q0, vI s1]) okX8_truth rfl rfl rfl rfl rfl rfl (jstp_virtual (sa := [vI s1]) (st := []) (k := 0) rfl rfl sX8_truth okX8_truth g_1 (one41.k g_1) rfl rfl) w (fun v_4 h_2 _ _ _ w => ?_)
  exact jw_areturn rfl rfl rfl rfl rfl w
def W_X8_told_0 (D : JD) (d : Nat) (Q : JO → JH → Prop) (r0 : Nat) (x1 : Int32) (r2 : Nat) (r3 : Nat) (h : JH) : Prop :=
  r2 ≠ 0 ∧ (((jfi h 266 r2) = 0 → W_X8_told_14 D d Q r0 h) ∧ (¬ (jfi h 266 r2) = 0 → r3 ≠ 0 ∧ ((¬ (jfi h 266 r3) = 0 → cX8_compare D d r2 r3 h (pI D h (fun v_7 h_5 => (¬ x1 = 0 → (¬ x1 = (1 : Int32) → (¬ x1 = (2 : Int32) → (¬ x1 = (3 : Int32) → (¬ x1 = (4 : Int32) → (v_7 < 0 → W_X8_told_128 D d Q r0 (0 : Int32) h_5) ∧ (¬ v_7 < 0 → W_X8_told_128 D d Q r0 (1 : Int32) h_5)) ∧ (x1 = (4 : Int32) → (v_7 ≤ 0 → W_X8_told_128 D d Q r0 (0 : Int32) h_5) ∧ (¬ v_7 ≤ 0 → W_X8_told_128 D d Q r0 (1 : Int32) h_5))) ∧ (x1 = (3 : Int32) → (0 < v_7 → W_X8_told_128 D d Q r0 (0 : Int32) h_5) ∧ (¬ 0 < v_7 → W_X8_told_128 D d Q r0 (1 : Int32) h_5))) ∧ (x1 = (2 : Int32) → (0 ≤ v_7 → W_X8_told_128 D d Q r0 (0 : Int32) h_5) ∧ (¬ 0 ≤ v_7 → W_X8_told_128 D d Q r0 (1 : Int32) h_5))) ∧ (x1 = (1 : Int32) → (v_7 = 0 → W_X8_told_128 D d Q r0 (0 : Int32) h_5) ∧ (¬ v_7 = 0 → W_X8_told_128 D d Q r0 (1 : Int32) h_5))) ∧ (x1 = 0 → (¬ v_7 = 0 → W_X8_told_128 D d Q r0 (0 : Int32) h_5) ∧ (v_7 = 0 → W_X8_told_128 D d Q r0 (1 : Int32) h_5))) (jth Q))) ∧ ((jfi h 266 r3) = 0 → W_X8_told_14 D d Q r0 h))))
theorem w_X8_told_0 {D : JD} {d : Nat} {Q : JO → JH → Prop} {r0 : Nat} {x1 : Int32} {r2 : Nat} {r3 : Nat} {h : JH} (w : W_X8_told_0 D d Q r0 x1 r2 r3 h) : JW D (d + 1) mX8_told 0 [some (vR 41 r0), some (vI x1), some (vR 46 r2), some (vR 46 r3), none] [] h Q := by
  unfold W_X8_told_0 at w
  refine jw_aload_n (pc' := 1) rfl rfl ?_
  obtain ⟨g_1, w⟩ := w
  refine jw_getI (pc' := 4) (F := 266) rfl rfl rfl rfl g_1 ?_
  refine jw_if_eq (tgt := 14) (pc' := 7) rfl rfl (fun c_2 => ?_) (fun c_2 => ?_)
  · replace w := w.1 c_2
    refine jw_gen (ls' := [some (vR 41 r0), none, none, none, none]) (st' := []) (And.intro (Or.inl rfl) (trivial)) (trivial) ?_
    exact w_X8_told_14 w
  · replace w := w.2 c_2
    refine jw_aload_n (pc' := 8) rfl rfl ?_
    obtain ⟨g_3, w⟩ := w
    refine jw_getI (pc' := 11) (F := 266) rfl rfl rfl rfl g_3 ?_
    refine jw_if_ne (tgt := 21) (pc' := 14) rfl rfl (fun c_4 => ?_) (fun c_4 => ?_)
    · replace w := w.1 c_4
      refine jw_aload_n (pc' := 22) rfl rfl ?_
      refine jw_aload_n (pc' := 23) rfl rfl ?_
      refine jw_cI (st := []) (sa := [vR 46 r2, vR 46 r3]) okX8_compare rfl rfl rfl rfl rfl rfl (jstp_static (sa := [vR 46 r2, vR 46 r3]) (st := []) rfl rfl sX8_compare okX8_compare rfl rfl) w (fun v_7 h_5 _ _ w => ?_)
      refine jw_istore (pc' := 28) (ls' := [some (vR 41 r0), some (vI x1), some (vR 46 r2), some (vR 46 r3), some (vI v_7)]) rfl (by decide) rfl ?_
      refine jw_aload_n (pc' := 29) rfl rfl ?_
      refine jw_iload_n (pc' := 30) rfl rfl ?_
      refine jw_if_ne (tgt := 46) (pc' := 33) rfl rfl (fun c_8 => ?_) (fun c_8 => ?_)
      · replace w := w.1 c_8
        refine jw_iload_n (pc' := 47) rfl rfl ?_
        refine jw_iconst (pc' := 48) (x := (1 : Int32)) rfl rfl ?_
        refine jw_icmp_ne (tgt := 64) (pc' := 51) rfl rfl (fun c_9 => ?_) (fun c_9 => ?_)
        · replace w := w.1 c_9
          refine jw_iload_n (pc' := 65) rfl rfl ?_
          refine jw_iconst (pc' := 66) (x := (2 : Int32)) rfl rfl ?_
          refine jw_icmp_ne (tgt := 82) (pc' := 69) rfl rfl (fun c_10 => ?_) (fun c_10 => ?_)
          · replace w := w.1 c_10
            refine jw_iload_n (pc' := 83) rfl rfl ?_
            refine jw_iconst (pc' := 84) (x := (3 : Int32)) rfl rfl ?_
            refine jw_icmp_ne (tgt := 100) (pc' := 87) rfl rfl (fun c_11 => ?_) (fun c_11 => ?_)
            · replace w := w.1 c_11
              refine jw_iload_n (pc' := 101) rfl rfl ?_
              refine jw_iconst (pc' := 102) (x := (4 : Int32)) rfl rfl ?_
              refine jw_icmp_ne (tgt := 118) (pc' := 105) rfl rfl (fun c_12 => ?_) (fun c_12 => ?_)
              · replace w := w.1 c_12
                refine jw_iload (pc' := 120) rfl rfl ?_
                refine jw_if_lt (tgt := 127) (pc' := 123) rfl rfl (fun c_13 => ?_) (fun c_13 => ?_)
                · replace w := w.1 c_13
                  refine jw_iconst (pc' := 128) (x := (0 : Int32)) rfl rfl ?_
                  refine jw_gen (ls' := [none, none, none, none, none]) (st' := [vI (0 : Int32), vR 41 r0]) (trivial) (And.intro (Or.inl rfl) (And.intro (Or.inl rfl) (trivial))) ?_
                  exact w_X8_told_128 w
                · replace w := w.2 c_13
                  refine jw_iconst (pc' := 124) (x := (1 : Int32)) rfl rfl ?_
                  refine jw_goto (pc' := 128) rfl rfl ?_
                  refine jw_gen (ls' := [none, none, none, none, none]) (st' := [vI (1 : Int32), vR 41 r0]) (trivial) (And.intro (Or.inl rfl) (And.intro (Or.inl rfl) (trivial))) ?_
                  exact w_X8_told_128 w
              · replace w := w.2 c_12
                refine jw_iload (pc' := 107) rfl rfl ?_
                refine jw_if_le (tgt := 114) (pc' := 110) rfl rfl (fun c_14 => ?_) (fun c_14 => ?_)
                · replace w := w.1 c_14
                  refine jw_iconst (pc' := 115) (x := (0 : Int32)) rfl rfl ?_
                  refine jw_goto (pc' := 128) rfl rfl ?_
                  refine jw_gen (ls' := [none, none, none, none, none]) (st' := [vI (0 : Int32), vR 41 r0]) (trivial) (And.intro (Or.inl rfl) (And.intro (Or.inl rfl) (trivial))) ?_
                  exact w_X8_told_128 w
                · replace w := w.2 c_14
                  refine jw_iconst (pc' := 111) (x := (1 : Int32)) rfl rfl ?_
                  refine jw_goto (pc' := 128) rfl rfl ?_
                  refine jw_gen (ls' := [none, none, none, none, none]) (st' := [vI (1 : Int32), vR 41 r0]) (trivial) (And.intro (Or.inl rfl) (And.intro (Or.inl rfl) (trivial))) ?_
                  exact w_X8_told_128 w
            · replace w := w.2 c_11
              refine jw_iload (pc' := 89) rfl rfl ?_
              refine jw_if_gt (tgt := 96) (pc' := 92) rfl rfl (fun c_15 => ?_) (fun c_15 => ?_)
              · replace w := w.1 c_15
                refine jw_iconst (pc' := 97) (x := (0 : Int32)) rfl rfl ?_
                refine jw_goto (pc' := 128) rfl rfl ?_
                refine jw_gen (ls' := [none, none, none, none, none]) (st' := [vI (0 : Int32), vR 41 r0]) (trivial) (And.intro (Or.inl rfl) (And.intro (Or.inl rfl) (trivial))) ?_
                exact w_X8_told_128 w
              · replace w := w.2 c_15
                refine jw_iconst (pc' := 93) (x := (1 : Int32)) rfl rfl ?_
                refine jw_goto (pc' := 128) rfl rfl ?_
                refine jw_gen (ls' := [none, none, none, none, none]) (st' := [vI (1 : Int32), vR 41 r0]) (trivial) (And.intro (Or.inl rfl) (And.intro (Or.inl rfl) (trivial))) ?_
                exact w_X8_told_128 w
          · replace w := w.2 c_10
            refine jw_iload (pc' := 71) rfl rfl ?_
            refine jw_if_ge (tgt := 78) (pc' := 74) rfl rfl (fun c_16 => ?_) (fun c_16 => ?_)
            · replace w := w.1 c_16
              refine jw_iconst (pc' := 79) (x := (0 : Int32)) rfl rfl ?_
              refine jw_goto (pc' := 128) rfl rfl ?_
              refine jw_gen (ls' := [none, none, none, none, none]) (st' := [vI (0 : Int32), vR 41 r0]) (trivial) (And.intro (Or.inl rfl) (And.intro (Or.inl rfl) (trivial))) ?_
              exact w_X8_told_128 w
            · replace w := w.2 c_16
              refine jw_iconst (pc' := 75) (x := (1 : Int32)) rfl rfl ?_
              refine jw_goto (pc' := 128) rfl rfl ?_
              refine jw_gen (ls' := [none, none, none, none, none]) (st' := [vI (1 : Int32), vR 41 r0]) (trivial) (And.intro (Or.inl rfl) (And.intro (Or.inl rfl) (trivial))) ?_
              exact w_X8_told_128 w
        · replace w := w.2 c_9
          refine jw_iload (pc' := 53) rfl rfl ?_
          refine jw_if_eq (tgt := 60) (pc' := 56) rfl rfl (fun c_17 => ?_) (fun c_17 => ?_)
          · replace w := w.1 c_17
            refine jw_iconst (pc' := 61) (x := (0 : Int32)) rfl rfl ?_
            refine jw_goto (pc' := 128) rfl rfl ?_
            refine jw_gen (ls' := [none, none, none, none, none]) (st' := [vI (0 : Int32), vR 41 r0]) (trivial) (And.intro (Or.inl rfl) (And.intro (Or.inl rfl) (trivial))) ?_
            exact w_X8_told_128 w
          · replace w := w.2 c_17
            refine jw_iconst (pc' := 57) (x := (1 : Int32)) rfl rfl ?_
            refine jw_goto (pc' := 128) rfl rfl ?_
            refine jw_gen (ls' := [none, none, none, none, none]) (st' := [vI (1 : Int32), vR 41 r0]) (trivial) (And.intro (Or.inl rfl) (And.intro (Or.inl rfl) (trivial))) ?_
            exact w_X8_told_128 w
      · replace w := w.2 c_8
        refine jw_iload (pc' := 35) rfl rfl ?_
        refine jw_if_ne (tgt := 42) (pc' := 38) rfl rfl (fun c_18 => ?_) (fun c_18 => ?_)
        · replace w := w.1 c_18
          refine jw_iconst (pc' := 43) (x := (0 : Int32)) rfl rfl ?_
          refine jw_goto (pc' := 128) rfl rfl ?_
          refine jw_gen (ls' := [none, none, none, none, none]) (st' := [vI (0 : Int32), vR 41 r0]) (trivial) (And.intro (Or.inl rfl) (And.intro (Or.inl rfl) (trivial))) ?_
          exact w_X8_told_128 w
        · replace w := w.2 c_18
          refine jw_iconst (pc' := 39) (x := (1 : Int32)) rfl rfl ?_
          refine jw_goto (pc' := 128) rfl rfl ?_
          refine jw_gen (ls' := [none, none, none, none, none]) (st' := [vI (1 : Int32), vR 41 r0]) (trivial) (And.intro (Or.inl rfl) (And.intro (Or.inl rfl) (trivial))) ?_
          exact w_X8_told_128 w
    · replace w := w.2 c_4
      refine jw_gen (ls' := [some (vR 41 r0), none, none, none, none]) (st' := []) (And.intro (Or.inl rfl) (trivial)) (trivial) ?_
      exact w_X8_told_14 w
def T_X8_told (D : JD) (d : Nat) (Q : JO → JH → Prop) (r0 : Nat) (x1 : Int32) (r2 : Nat) (r3 : Nat) (h : JH) : Prop := W_X8_told_0 D d Q r0 x1 r2 r3 h
theorem t_X8_told {D : JD} {d : Nat} {Q : JO → JH → Prop} {r0 : Nat} {x1 : Int32} {r2 : Nat} {r3 : Nat} {h : JH} (w : T_X8_told D d Q r0 x1 r2 r3 h) : cX8_told D (d + 1) r0 x1 r2 r3 h Q := by
  unfold T_X8_told at w
  unfold cX8_told
  exact w_X8_told_0 w
def W_X8_truth_12 (D : JD) (d : Nat) (Q : JO → JH → Prop) (q0 : Nat) (s1 : Int32) (t2 : Int64) (h : JH) : Prop :=
  q0 ≠ 0 ∧ (cX8_value D d q0 s1 t2 h (pR D h 46 (fun v_4 h_2 => Q (.inl (some (vR 46 v_4))) h_2) (jth Q)))
theorem w_X8_truth_12 {D : JD} {d : Nat} {Q : JO → JH → Prop} {q0 : Nat} {s1 : Int32} {t2 : Int64} {h : JH} (w : W_X8_truth_12 D d Q q0 s1 t2 h) : JW D (d + 1) mX8_truth 12 [none, none] [vL t2, vI s1, vR 41 q0] h Q := by
  unfold W_X8_truth_12 at w
  obtain ⟨g_1, w⟩ := w
  refine jw_cR (st := []) (sa := [vR 41 q0, vI s1, vL t2]) okX8_value rfl rfl rfl rfl rfl rfl (jstp_virtual (sa := [vI s1, vL t2]) (st := []) (k := 0) rfl rfl sX8_value okX8_value g_1 (one41.k g_1) rfl rfl) w (fun v_4 h_2 _ _ _ w => ?_)
  exact jw_areturn rfl rfl rfl rfl rfl w
def W_X8_truth_0 (D : JD) (d : Nat) (Q : JO → JH → Prop) (r0 : Nat) (x1 : Int32) (h : JH) : Prop :=
  (x1 = 0 → W_X8_truth_12 D d Q r0 (16 : Int32) (0 : Int64) h) ∧ (¬ x1 = 0 → W_X8_truth_12 D d Q r0 (16 : Int32) (1 : Int64) h)
theorem w_X8_truth_0 {D : JD} {d : Nat} {Q : JO → JH → Prop} {r0 : Nat} {x1 : Int32} {h : JH} (w : W_X8_truth_0 D d Q r0 x1 h) : JW D (d + 1) mX8_truth 0 [some (vR 41 r0), some (vI x1)] [] h Q := by
  unfold W_X8_truth_0 at w
  refine jw_aload_n (pc' := 1) rfl rfl ?_
  refine jw_bipush (pc' := 3) (x := (16 : Int32)) rfl rfl ?_
  refine jw_iload_n (pc' := 4) rfl rfl ?_
  refine jw_if_eq (tgt := 11) (pc' := 7) rfl rfl (fun c_1 => ?_) (fun c_1 => ?_)
  · replace w := w.1 c_1
    refine jw_lconst (pc' := 12) (x := (0 : Int64)) rfl rfl ?_
    refine jw_gen (ls' := [none, none]) (st' := [vL (0 : Int64), vI (16 : Int32), vR 41 r0]) (trivial) (And.intro (Or.inl rfl) (And.intro (Or.inl rfl) (And.intro (Or.inl rfl) (trivial)))) ?_
    exact w_X8_truth_12 w
  · replace w := w.2 c_1
    refine jw_lconst (pc' := 8) (x := (1 : Int64)) rfl rfl ?_
    refine jw_goto (pc' := 12) rfl rfl ?_
    refine jw_gen (ls' := [none, none]) (st' := [vL (1 : Int64), vI (16 : Int32), vR 41 r0]) (trivial) (And.intro (Or.inl rfl) (And.intro (Or.inl rfl) (And.intro (Or.inl rfl) (trivial)))) ?_
    exact w_X8_truth_12 w
def T_X8_truth (D : JD) (d : Nat) (Q : JO → JH → Prop) (r0 : Nat) (x1 : Int32) (h : JH) : Prop := W_X8_truth_0 D d Q r0 x1 h
theorem t_X8_truth {D : JD} {d : Nat} {Q : JO → JH → Prop} {r0 : Nat} {x1 : Int32} {h : JH} (w : T_X8_truth D d Q r0 x1 h) : cX8_truth D (d + 1) r0 x1 h Q := by
  unfold T_X8_truth at w
  unfold cX8_truth
  exact w_X8_truth_0 w
def W_X8_isTrue_23 (D : JD) (d : Nat) (Q : JO → JH → Prop) (s0 : Int32) (h : JH) : Prop :=
  jbo s0 ∧ (Q (.inl (some (vI s0))) h)
theorem w_X8_isTrue_23 {D : JD} {d : Nat} {Q : JO → JH → Prop} {s0 : Int32} {h : JH} (w : W_X8_isTrue_23 D d Q s0 h) : JW D (d + 1) mX8_isTrue 23 [none] [vI s0] h Q := by
  unfold W_X8_isTrue_23 at w
  obtain ⟨g_1, w⟩ := w
  exact jw_ireturn rfl rfl (g_1.nr) w
def W_X8_isTrue_22 (D : JD) (d : Nat) (Q : JO → JH → Prop) (h : JH) : Prop :=
  W_X8_isTrue_23 D d Q (0 : Int32) h
theorem w_X8_isTrue_22 {D : JD} {d : Nat} {Q : JO → JH → Prop} {h : JH} (w : W_X8_isTrue_22 D d Q h) : JW D (d + 1) mX8_isTrue 22 [none] [] h Q := by
  unfold W_X8_isTrue_22 at w
  refine jw_iconst (pc' := 23) (x := (0 : Int32)) rfl rfl ?_
  exact w_X8_isTrue_23 w
def W_X8_isTrue_0 (D : JD) (d : Nat) (Q : JO → JH → Prop) (r0 : Nat) (h : JH) : Prop :=
  r0 ≠ 0 ∧ ((¬ (jfi h 266 r0) = (16 : Int32) → W_X8_isTrue_22 D d Q h) ∧ ((jfi h 266 r0) = (16 : Int32) → (¬ (lg_cmp (jfl h 267 r0) (1 : Int64)) = 0 → W_X8_isTrue_22 D d Q h) ∧ ((lg_cmp (jfl h 267 r0) (1 : Int64)) = 0 → W_X8_isTrue_23 D d Q (1 : Int32) h)))
theorem w_X8_isTrue_0 {D : JD} {d : Nat} {Q : JO → JH → Prop} {r0 : Nat} {h : JH} (w : W_X8_isTrue_0 D d Q r0 h) : JW D (d + 1) mX8_isTrue 0 [some (vR 46 r0)] [] h Q := by
  unfold W_X8_isTrue_0 at w
  refine jw_aload_n (pc' := 1) rfl rfl ?_
  obtain ⟨g_1, w⟩ := w
  refine jw_getI (pc' := 4) (F := 266) rfl rfl rfl rfl g_1 ?_
  refine jw_bipush (pc' := 6) (x := (16 : Int32)) rfl rfl ?_
  refine jw_icmp_ne (tgt := 22) (pc' := 9) rfl rfl (fun c_2 => ?_) (fun c_2 => ?_)
  · replace w := w.1 c_2
    refine jw_gen (ls' := [none]) (st' := []) (trivial) (trivial) ?_
    exact w_X8_isTrue_22 w
  · replace w := w.2 c_2
    refine jw_aload_n (pc' := 10) rfl rfl ?_
    refine jw_getL (pc' := 13) (F := 267) rfl rfl rfl rfl g_1 ?_
    refine jw_lconst (pc' := 14) (x := (1 : Int64)) rfl rfl ?_
    refine jw_lcmp (pc' := 15) rfl ?_
    refine jw_if_ne (tgt := 22) (pc' := 18) rfl rfl (fun c_3 => ?_) (fun c_3 => ?_)
    · replace w := w.1 c_3
      refine jw_gen (ls' := [none]) (st' := []) (trivial) (trivial) ?_
      exact w_X8_isTrue_22 w
    · replace w := w.2 c_3
      refine jw_iconst (pc' := 19) (x := (1 : Int32)) rfl rfl ?_
      refine jw_goto (pc' := 23) rfl rfl ?_
      refine jw_gen (ls' := [none]) (st' := [vI (1 : Int32)]) (trivial) (And.intro (Or.inl rfl) (trivial)) ?_
      exact w_X8_isTrue_23 w
def T_X8_isTrue (D : JD) (d : Nat) (Q : JO → JH → Prop) (r0 : Nat) (h : JH) : Prop := W_X8_isTrue_0 D d Q r0 h
theorem t_X8_isTrue {D : JD} {d : Nat} {Q : JO → JH → Prop} {r0 : Nat} {h : JH} (w : T_X8_isTrue D d Q r0 h) : cX8_isTrue D (d + 1) r0 h Q := by
  unfold T_X8_isTrue at w
  unfold cX8_isTrue
  exact w_X8_isTrue_0 w
def W_X8_put_2_15 (D : JD) (d : Nat) (Q : JO → JH → Prop) (r1 : Nat) (x2 : Int32) (q0 : Nat) (s1 : Int32) (h : JH) : Prop :=
  q0 ≠ 0 ∧ (cX8_must D d q0 s1 (jcs D 326) h (pV D h (fun h_2 => r1 ≠ 0 ∧ (cX13_put D d r1 x2 h_2 (pV D h_2 (fun h_6 => Q (.inl none) h_6) (jth Q)))) (jth Q)))
theorem w_X8_put_2_15 {D : JD} {d : Nat} {Q : JO → JH → Prop} {r1 : Nat} {x2 : Int32} {q0 : Nat} {s1 : Int32} {h : JH} (w : W_X8_put_2_15 D d Q r1 x2 q0 s1 h) : JW D (d + 1) mX8_put_2 15 [none, some (vR 46 r1), some (vI x2)] [vI s1, vR 41 q0] h Q := by
  unfold W_X8_put_2_15 at w
  refine jw_ldcS (pc' := 17) rfl rfl rfl rfl ?_
  obtain ⟨g_1, w⟩ := w
  refine jw_cV (st := []) (sa := [vR 41 q0, vI s1, vR 51 (jcs D 326)]) okX8_must rfl rfl rfl rfl rfl rfl (jstp_virtual (sa := [vI s1, vR 51 (jcs D 326)]) (st := []) (k := 0) rfl rfl sX8_must okX8_must g_1 (one41.k g_1) rfl rfl) w (fun h_2 _ _ w => ?_)
  refine jw_aload_n (pc' := 21) rfl rfl ?_
  refine jw_iload_n (pc' := 22) rfl rfl ?_
  obtain ⟨g_5, w⟩ := w
  refine jw_cV (st := []) (sa := [vR 46 r1, vI x2]) okX13_put rfl rfl rfl rfl rfl rfl (jstp_virtual (sa := [vI x2]) (st := []) (k := 0) rfl rfl sX13_put okX13_put g_5 (one46.k g_5) rfl rfl) w (fun h_6 _ _ w => ?_)
  exact jw_return rfl rfl w
def W_X8_put_2_0 (D : JD) (d : Nat) (Q : JO → JH → Prop) (r0 : Nat) (r1 : Nat) (x2 : Int32) (h : JH) : Prop :=
  r1 ≠ 0 ∧ (((40 : Int32) ≤ (jfi h 268 r1) → W_X8_put_2_15 D d Q r1 x2 r0 (0 : Int32) h) ∧ (¬ (40 : Int32) ≤ (jfi h 268 r1) → W_X8_put_2_15 D d Q r1 x2 r0 (1 : Int32) h))
theorem w_X8_put_2_0 {D : JD} {d : Nat} {Q : JO → JH → Prop} {r0 : Nat} {r1 : Nat} {x2 : Int32} {h : JH} (w : W_X8_put_2_0 D d Q r0 r1 x2 h) : JW D (d + 1) mX8_put_2 0 [some (vR 41 r0), some (vR 46 r1), some (vI x2)] [] h Q := by
  unfold W_X8_put_2_0 at w
  refine jw_aload_n (pc' := 1) rfl rfl ?_
  refine jw_aload_n (pc' := 2) rfl rfl ?_
  obtain ⟨g_1, w⟩ := w
  refine jw_getI (pc' := 5) (F := 268) rfl rfl rfl rfl g_1 ?_
  refine jw_bipush (pc' := 7) (x := (40 : Int32)) rfl rfl ?_
  refine jw_icmp_ge (tgt := 14) (pc' := 10) rfl rfl (fun c_2 => ?_) (fun c_2 => ?_)
  · replace w := w.1 c_2
    refine jw_iconst (pc' := 15) (x := (0 : Int32)) rfl rfl ?_
    refine jw_gen (ls' := [none, some (vR 46 r1), some (vI x2)]) (st' := [vI (0 : Int32), vR 41 r0]) (And.intro (Or.inl rfl) (And.intro (Or.inl rfl) (trivial))) (And.intro (Or.inl rfl) (And.intro (Or.inl rfl) (trivial))) ?_
    exact w_X8_put_2_15 w
  · replace w := w.2 c_2
    refine jw_iconst (pc' := 11) (x := (1 : Int32)) rfl rfl ?_
    refine jw_goto (pc' := 15) rfl rfl ?_
    refine jw_gen (ls' := [none, some (vR 46 r1), some (vI x2)]) (st' := [vI (1 : Int32), vR 41 r0]) (And.intro (Or.inl rfl) (And.intro (Or.inl rfl) (trivial))) (And.intro (Or.inl rfl) (And.intro (Or.inl rfl) (trivial))) ?_
    exact w_X8_put_2_15 w
def T_X8_put_2 (D : JD) (d : Nat) (Q : JO → JH → Prop) (r0 : Nat) (r1 : Nat) (x2 : Int32) (h : JH) : Prop := W_X8_put_2_0 D d Q r0 r1 x2 h
theorem t_X8_put_2 {D : JD} {d : Nat} {Q : JO → JH → Prop} {r0 : Nat} {r1 : Nat} {x2 : Int32} {h : JH} (w : T_X8_put_2 D d Q r0 r1 x2 h) : cX8_put_2 D (d + 1) r0 r1 x2 h Q := by
  unfold T_X8_put_2 at w
  unfold cX8_put_2
  exact w_X8_put_2_0 w
def W_X8_cased_84 (D : JD) (d : Nat) (Q : JO → JH → Prop) (q0 : Nat) (h : JH) : Prop :=
  Q (.inl (some (vR 46 q0))) h
theorem w_X8_cased_84 {D : JD} {d : Nat} {Q : JO → JH → Prop} {q0 : Nat} {h : JH} (w : W_X8_cased_84 D d Q q0 h) : JW D (d + 1) mX8_cased 84 [none, none, none, none] [vR 46 q0] h Q := by
  unfold W_X8_cased_84 at w
  exact jw_areturn rfl rfl rfl rfl rfl w
def W_X8_cased_12 (D : JD) (d : Nat) (Q : JO → JH → Prop) (K12 : Nat → Nat → Int32 → Int32 → JH → Prop) (r0 : Nat) (r1 : Nat) (x2 : Int32) (x3 : Int32) (h : JH) : Prop :=
  (x2 ≤ x3 → r1 ≠ 0 ∧ ((¬ (jfi h 306 r1) = (1 : Int32) → r0 ≠ 0 ∧ (cX8_value D d r0 (0 : Int32) (0 : Int64) h (pR D h 46 (fun v_7 h_5 => W_X8_cased_84 D d Q v_7 h_5) (jth Q)))) ∧ ((jfi h 306 r1) = (1 : Int32) → (jfr h 310 r1) ≠ 0 ∧ jin ((jfi h 311 r1) - (1 : Int32)) (jln h (jfr h 310 r1)) ∧ (r0 ≠ 0 ∧ (cX8_eval D d r0 (jar h (jfr h 310 r1) (ixn ((jfi h 311 r1) - (1 : Int32)))) h (pR D h 46 (fun v_13 h_11 => W_X8_cased_84 D d Q v_13 h_11) (jth Q))))))) ∧ (¬ x2 ≤ x3 → r1 ≠ 0 ∧ ((jfr h 310 r1) ≠ 0 ∧ jin x3 (jln h (jfr h 310 r1)) ∧ (r0 ≠ 0 ∧ (cX8_eval D d r0 (jar h (jfr h 310 r1) (ixn x3)) h (pR D h 46 (fun v_20 h_18 => cX8_isTrue D d v_20 h_18 (pI D h_18 (fun v_23 h_21 => (v_23 = 0 → K12 r0 r1 x2 (x3 + (2 : Int32)) h_21) ∧ (¬ v_23 = 0 → (jfr h_21 310 r1) ≠ 0 ∧ jin (x3 + (1 : Int32)) (jln h_21 (jfr h_21 310 r1)) ∧ (cX8_eval D d r0 (jar h_21 (jfr h_21 310 r1) (ixn (x3 + (1 : Int32)))) h_21 (pR D h_21 46 (fun v_29 h_27 => Q (.inl (some (vR 46 v_29))) h_27) (jth Q))))) (jth Q))) (jth Q))))))
theorem w_X8_cased_12 {D : JD} {d : Nat} {Q : JO → JH → Prop} {K12 : Nat → Nat → Int32 → Int32 → JH → Prop} {r0 : Nat} {r1 : Nat} {x2 : Int32} {x3 : Int32} {h : JH} (hK12 : ∀ (r0 : Nat) (r1 : Nat) (x2 : Int32) (x3 : Int32) (h : JH), K12 r0 r1 x2 x3 h → JW D (d + 1) mX8_cased 12 [some (vR 41 r0), some (vR 48 r1), some (vI x2), some (vI x3)] [] h Q) (w : W_X8_cased_12 D d Q K12 r0 r1 x2 x3 h) : JW D (d + 1) mX8_cased 12 [some (vR 41 r0), some (vR 48 r1), some (vI x2), some (vI x3)] [] h Q := by
  unfold W_X8_cased_12 at w
  refine jw_iload_n (pc' := 13) rfl rfl ?_
  refine jw_iload_n (pc' := 14) rfl rfl ?_
  refine jw_icmp_ge (tgt := 52) (pc' := 17) rfl rfl (fun c_1 => ?_) (fun c_1 => ?_)
  · replace w := w.1 c_1
    refine jw_aload_n (pc' := 53) rfl rfl ?_
    obtain ⟨g_2, w⟩ := w
    refine jw_getI (pc' := 56) (F := 306) rfl rfl rfl rfl g_2 ?_
    refine jw_iconst (pc' := 57) (x := (1 : Int32)) rfl rfl ?_
    refine jw_icmp_ne (tgt := 78) (pc' := 60) rfl rfl (fun c_3 => ?_) (fun c_3 => ?_)
    · replace w := w.1 c_3
      refine jw_aload_n (pc' := 79) rfl rfl ?_
      refine jw_iconst (pc' := 80) (x := (0 : Int32)) rfl rfl ?_
      refine jw_lconst (pc' := 81) (x := (0 : Int64)) rfl rfl ?_
      obtain ⟨g_4, w⟩ := w
      refine jw_cR (st := []) (sa := [vR 41 r0, vI (0 : Int32), vL (0 : Int64)]) okX8_value rfl rfl rfl rfl rfl rfl (jstp_virtual (sa := [vI (0 : Int32), vL (0 : Int64)]) (st := []) (k := 0) rfl rfl sX8_value okX8_value g_4 (one41.k g_4) rfl rfl) w (fun v_7 h_5 _ _ _ w => ?_)
      refine jw_gen (ls' := [none, none, none, none]) (st' := [vR 46 v_7]) (trivial) (And.intro (Or.inl rfl) (trivial)) ?_
      exact w_X8_cased_84 w
    · replace w := w.2 c_3
      refine jw_aload_n (pc' := 61) rfl rfl ?_
      refine jw_aload_n (pc' := 62) rfl rfl ?_
      refine jw_getR (pc' := 65) (F := 310) (t' := 215) rfl rfl rfl rfl rfl g_2 ?_
      refine jw_aload_n (pc' := 66) rfl rfl ?_
      refine jw_getI (pc' := 69) (F := 311) rfl rfl rfl rfl g_2 ?_
      refine jw_iconst (pc' := 70) (x := (1 : Int32)) rfl rfl ?_
      refine jw_isub (pc' := 71) rfl ?_
      obtain ⟨g_8, w⟩ := w
      obtain ⟨g_9, w⟩ := w
      refine jw_aald (pc' := 72) (t' := 48) rfl rfl rfl rfl g_8 g_9.ix g_9.2 ?_
      obtain ⟨g_10, w⟩ := w
      refine jw_cR (st := []) (sa := [vR 41 r0, vR 48 (jar h (jfr h 310 r1) (ixn ((jfi h 311 r1) - (1 : Int32))))]) okX8_eval rfl rfl rfl rfl rfl rfl (jstp_virtual (sa := [vR 48 (jar h (jfr h 310 r1) (ixn ((jfi h 311 r1) - (1 : Int32))))]) (st := []) (k := 0) rfl rfl sX8_eval okX8_eval g_10 (one41.k g_10) rfl rfl) w (fun v_13 h_11 _ _ _ w => ?_)
      refine jw_goto (pc' := 84) rfl rfl ?_
      refine jw_gen (ls' := [none, none, none, none]) (st' := [vR 46 v_13]) (trivial) (And.intro (Or.inl rfl) (trivial)) ?_
      exact w_X8_cased_84 w
  · replace w := w.2 c_1
    refine jw_aload_n (pc' := 18) rfl rfl ?_
    refine jw_aload_n (pc' := 19) rfl rfl ?_
    obtain ⟨g_14, w⟩ := w
    refine jw_getR (pc' := 22) (F := 310) (t' := 215) rfl rfl rfl rfl rfl g_14 ?_
    refine jw_iload_n (pc' := 23) rfl rfl ?_
    obtain ⟨g_15, w⟩ := w
    obtain ⟨g_16, w⟩ := w
    refine jw_aald (pc' := 24) (t' := 48) rfl rfl rfl rfl g_15 g_16.ix g_16.2 ?_
    obtain ⟨g_17, w⟩ := w
    refine jw_cR (st := []) (sa := [vR 41 r0, vR 48 (jar h (jfr h 310 r1) (ixn x3))]) okX8_eval rfl rfl rfl rfl rfl rfl (jstp_virtual (sa := [vR 48 (jar h (jfr h 310 r1) (ixn x3))]) (st := []) (k := 0) rfl rfl sX8_eval okX8_eval g_17 (one41.k g_17) rfl rfl) w (fun v_20 h_18 _ _ _ w => ?_)
    refine jw_cI (st := []) (sa := [vR 46 v_20]) okX8_isTrue rfl rfl rfl rfl rfl rfl (jstp_static (sa := [vR 46 v_20]) (st := []) rfl rfl sX8_isTrue okX8_isTrue rfl rfl) w (fun v_23 h_21 _ _ w => ?_)
    refine jw_if_eq (tgt := 46) (pc' := 33) rfl rfl (fun c_24 => ?_) (fun c_24 => ?_)
    · replace w := w.1 c_24
      refine jw_iinc (pc' := 49) (y := x3 + (2 : Int32)) (ls' := [some (vR 41 r0), some (vR 48 r1), some (vI x2), some (vI (x3 + (2 : Int32)))]) rfl (by decide) rfl rfl rfl ?_
      refine jw_goto (pc' := 12) rfl rfl ?_
      exact hK12 _ _ _ _ _ w
    · replace w := w.2 c_24
      refine jw_aload_n (pc' := 34) rfl rfl ?_
      refine jw_aload_n (pc' := 35) rfl rfl ?_
      refine jw_getR (pc' := 38) (F := 310) (t' := 215) rfl rfl rfl rfl rfl g_14 ?_
      refine jw_iload_n (pc' := 39) rfl rfl ?_
      refine jw_iconst (pc' := 40) (x := (1 : Int32)) rfl rfl ?_
      refine jw_iadd (pc' := 41) rfl ?_
      obtain ⟨g_25, w⟩ := w
      obtain ⟨g_26, w⟩ := w
      refine jw_aald (pc' := 42) (t' := 48) rfl rfl rfl rfl g_25 g_26.ix g_26.2 ?_
      refine jw_cR (st := []) (sa := [vR 41 r0, vR 48 (jar h_21 (jfr h_21 310 r1) (ixn (x3 + (1 : Int32))))]) okX8_eval rfl rfl rfl rfl rfl rfl (jstp_virtual (sa := [vR 48 (jar h_21 (jfr h_21 310 r1) (ixn (x3 + (1 : Int32))))]) (st := []) (k := 0) rfl rfl sX8_eval okX8_eval g_17 (one41.k g_17) rfl rfl) w (fun v_29 h_27 _ _ _ w => ?_)
      exact jw_areturn rfl rfl rfl rfl rfl w
def L_X8_cased_12 (D : JD) (d : Nat) (Q : JO → JH → Prop) : Nat → Nat → Nat → Int32 → Int32 → JH → Prop
  | 0 => fun _ _ _ _ _ => False
  | n + 1 => fun r0 r1 x2 x3 h => W_X8_cased_12 D d Q (L_X8_cased_12 D d Q n) r0 r1 x2 x3 h
theorem l_X8_cased_12 {D : JD} {d : Nat} {Q : JO → JH → Prop} : ∀ (n : Nat) (r0 : Nat) (r1 : Nat) (x2 : Int32) (x3 : Int32) (h : JH), L_X8_cased_12 D d Q n r0 r1 x2 x3 h → JW D (d + 1) mX8_cased 12 [some (vR 41 r0), some (vR 48 r1), some (vI x2), some (vI x3)] [] h Q := by
  intro n
  induction n with
  | zero => intro _ _ _ _ _ w; exact w.elim
  | succ n ih => intro _ _ _ _ h w; exact w_X8_cased_12 ih w
def W_X8_cased_0 (D : JD) (d : Nat) (Q : JO → JH → Prop) (r0 : Nat) (r1 : Nat) (h : JH) : Prop :=
  r1 ≠ 0 ∧ (∃ n, L_X8_cased_12 D d Q n r0 r1 ((jfi h 311 r1) - (jfi h 306 r1)) (0 : Int32) h)
theorem w_X8_cased_0 {D : JD} {d : Nat} {Q : JO → JH → Prop} {r0 : Nat} {r1 : Nat} {h : JH} (w : W_X8_cased_0 D d Q r0 r1 h) : JW D (d + 1) mX8_cased 0 [some (vR 41 r0), some (vR 48 r1), none, none] [] h Q := by
  unfold W_X8_cased_0 at w
  refine jw_aload_n (pc' := 1) rfl rfl ?_
  obtain ⟨g_1, w⟩ := w
  refine jw_getI (pc' := 4) (F := 311) rfl rfl rfl rfl g_1 ?_
  refine jw_aload_n (pc' := 5) rfl rfl ?_
  refine jw_getI (pc' := 8) (F := 306) rfl rfl rfl rfl g_1 ?_
  refine jw_isub (pc' := 9) rfl ?_
  refine jw_istore_n (pc' := 10) (ls' := [some (vR 41 r0), some (vR 48 r1), some (vI ((jfi h 311 r1) - (jfi h 306 r1))), none]) rfl (by decide) rfl ?_
  refine jw_iconst (pc' := 11) (x := (0 : Int32)) rfl rfl ?_
  refine jw_istore_n (pc' := 12) (ls' := [some (vR 41 r0), some (vR 48 r1), some (vI ((jfi h 311 r1) - (jfi h 306 r1))), some (vI (0 : Int32))]) rfl (by decide) rfl ?_
  obtain ⟨n, w⟩ := w
  exact l_X8_cased_12 n _ _ _ _ _ w
def T_X8_cased (D : JD) (d : Nat) (Q : JO → JH → Prop) (r0 : Nat) (r1 : Nat) (h : JH) : Prop := W_X8_cased_0 D d Q r0 r1 h
theorem t_X8_cased {D : JD} {d : Nat} {Q : JO → JH → Prop} {r0 : Nat} {r1 : Nat} {h : JH} (w : T_X8_cased D d Q r0 r1 h) : cX8_cased D (d + 1) r0 r1 h Q := by
  unfold T_X8_cased at w
  unfold cX8_cased
  exact w_X8_cased_0 w
def W_X8_among_121 (D : JD) (d : Nat) (Q : JO → JH → Prop) (q0 : Nat) (h : JH) : Prop :=
  Q (.inl (some (vR 46 q0))) h
theorem w_X8_among_121 {D : JD} {d : Nat} {Q : JO → JH → Prop} {q0 : Nat} {h : JH} (w : W_X8_among_121 D d Q q0 h) : JW D (d + 1) mX8_among 121 [none, none, none, none, none, none] [vR 46 q0] h Q := by
  unfold W_X8_among_121 at w
  exact jw_areturn rfl rfl rfl rfl rfl w
def W_X8_among_118 (D : JD) (d : Nat) (Q : JO → JH → Prop) (q0 : Nat) (s1 : Int32) (h : JH) : Prop :=
  q0 ≠ 0 ∧ (cX8_truth D d q0 s1 h (pR D h 46 (fun v_4 h_2 => W_X8_among_121 D d Q v_4 h_2) (jth Q)))
theorem w_X8_among_118 {D : JD} {d : Nat} {Q : JO → JH → Prop} {q0 : Nat} {s1 : Int32} {h : JH} (w : W_X8_among_118 D d Q q0 s1 h) : JW D (d + 1) mX8_among 118 [none, none, none, none, none, none] [vI s1, vR 41 q0] h Q := by
  unfold W_X8_among_118 at w
  obtain ⟨g_1, w⟩ := w
  refine jw_cR (st := []) (sa := [vR 41 q0, vI s1]) okX8_truth rfl rfl rfl rfl rfl rfl (jstp_virtual (sa := [vI s1]) (st := []) (k := 0) rfl rfl sX8_truth okX8_truth g_1 (one41.k g_1) rfl rfl) w (fun v_4 h_2 _ _ _ w => ?_)
  exact w_X8_among_121 w
def W_X8_among_83 (D : JD) (d : Nat) (Q : JO → JH → Prop) (K16 : Nat → Nat → Nat → Int32 → Int32 → JH → Prop) (r0 : Nat) (r1 : Nat) (r2 : Nat) (x4 : Int32) (s0 : Int32) (s1 : Int32) (h : JH) : Prop :=
  K16 r0 r1 r2 (s0 ||| s1) (x4 + (1 : Int32)) h
theorem w_X8_among_83 {D : JD} {d : Nat} {Q : JO → JH → Prop} {K16 : Nat → Nat → Nat → Int32 → Int32 → JH → Prop} {r0 : Nat} {r1 : Nat} {r2 : Nat} {x4 : Int32} {s0 : Int32} {s1 : Int32} {h : JH} (hK16 : ∀ (r0 : Nat) (r1 : Nat) (r2 : Nat) (x3 : Int32) (x4 : Int32) (h : JH), K16 r0 r1 r2 x3 x4 h → JW D (d + 1) mX8_among 16 [some (vR 41 r0), some (vR 48 r1), some (vR 46 r2), some (vI x3), some (vI x4), none] [] h Q) (w : W_X8_among_83 D d Q K16 r0 r1 r2 x4 s0 s1 h) : JW D (d + 1) mX8_among 83 [some (vR 41 r0), some (vR 48 r1), some (vR 46 r2), none, some (vI x4), none] [vI s1, vI s0] h Q := by
  unfold W_X8_among_83 at w
  refine jw_ior (pc' := 84) rfl ?_
  refine jw_istore_n (pc' := 85) (ls' := [some (vR 41 r0), some (vR 48 r1), some (vR 46 r2), some (vI (s0 ||| s1)), some (vI x4), none]) rfl (by decide) rfl ?_
  refine jw_iinc (pc' := 88) (y := x4 + (1 : Int32)) (ls' := [some (vR 41 r0), some (vR 48 r1), some (vR 46 r2), some (vI (s0 ||| s1)), some (vI (x4 + (1 : Int32))), none]) rfl (by decide) rfl rfl rfl ?_
  refine jw_goto (pc' := 16) rfl rfl ?_
  exact hK16 _ _ _ _ _ _ w
def W_X8_among_65 (D : JD) (d : Nat) (Q : JO → JH → Prop) (q0 : Nat) (s1 : Int32) (h : JH) : Prop :=
  q0 ≠ 0 ∧ (cX8_truth D d q0 s1 h (pR D h 46 (fun v_4 h_2 => Q (.inl (some (vR 46 v_4))) h_2) (jth Q)))
theorem w_X8_among_65 {D : JD} {d : Nat} {Q : JO → JH → Prop} {q0 : Nat} {s1 : Int32} {h : JH} (w : W_X8_among_65 D d Q q0 s1 h) : JW D (d + 1) mX8_among 65 [none, none, none, none, none, none] [vI s1, vR 41 q0] h Q := by
  unfold W_X8_among_65 at w
  obtain ⟨g_1, w⟩ := w
  refine jw_cR (st := []) (sa := [vR 41 q0, vI s1]) okX8_truth rfl rfl rfl rfl rfl rfl (jstp_virtual (sa := [vI s1]) (st := []) (k := 0) rfl rfl sX8_truth okX8_truth g_1 (one41.k g_1) rfl rfl) w (fun v_4 h_2 _ _ _ w => ?_)
  exact jw_areturn rfl rfl rfl rfl rfl w
def W_X8_among_16 (D : JD) (d : Nat) (Q : JO → JH → Prop) (K16 : Nat → Nat → Nat → Int32 → Int32 → JH → Prop) (r0 : Nat) (r1 : Nat) (r2 : Nat) (x3 : Int32) (x4 : Int32) (h : JH) : Prop :=
  r1 ≠ 0 ∧ (((jfi h 311 r1) ≤ x4 → (x3 = 0 → (¬ (jfi h 306 r1) = (1 : Int32) → W_X8_among_118 D d Q r0 (0 : Int32) h) ∧ ((jfi h 306 r1) = (1 : Int32) → W_X8_among_118 D d Q r0 (1 : Int32) h)) ∧ (¬ x3 = 0 → r0 ≠ 0 ∧ (cX8_value D d r0 (0 : Int32) (0 : Int64) h (pR D h 46 (fun v_8 h_6 => W_X8_among_121 D d Q v_8 h_6) (jth Q))))) ∧ (¬ (jfi h 311 r1) ≤ x4 → (jfr h 310 r1) ≠ 0 ∧ jin x4 (jln h (jfr h 310 r1)) ∧ (r0 ≠ 0 ∧ (cX8_eval D d r0 (jar h (jfr h 310 r1) (ixn x4)) h (pR D h 46 (fun v_14 h_12 => cX8_told D d r0 (0 : Int32) r2 v_14 h_12 (pR D h_12 46 (fun v_17 h_15 => cX8_isTrue D d v_17 h_15 (pI D h_15 (fun v_20 h_18 => (v_20 = 0 → v_17 ≠ 0 ∧ ((¬ (jfi h_18 266 v_17) = 0 → W_X8_among_83 D d Q K16 r0 r1 r2 x4 x3 (0 : Int32) h_18) ∧ ((jfi h_18 266 v_17) = 0 → W_X8_among_83 D d Q K16 r0 r1 r2 x4 x3 (1 : Int32) h_18))) ∧ (¬ v_20 = 0 → (¬ (jfi h_18 306 r1) = 0 → W_X8_among_65 D d Q r0 (0 : Int32) h_18) ∧ ((jfi h_18 306 r1) = 0 → W_X8_among_65 D d Q r0 (1 : Int32) h_18))) (jth Q))) (jth Q))) (jth Q))))))
theorem w_X8_among_16 {D : JD} {d : Nat} {Q : JO → JH → Prop} {K16 : Nat → Nat → Nat → Int32 → Int32 → JH → Prop} {r0 : Nat} {r1 : Nat} {r2 : Nat} {x3 : Int32} {x4 : Int32} {h : JH} (hK16 : ∀ (r0 : Nat) (r1 : Nat) (r2 : Nat) (x3 : Int32) (x4 : Int32) (h : JH), K16 r0 r1 r2 x3 x4 h → JW D (d + 1) mX8_among 16 [some (vR 41 r0), some (vR 48 r1), some (vR 46 r2), some (vI x3), some (vI x4), none] [] h Q) (w : W_X8_among_16 D d Q K16 r0 r1 r2 x3 x4 h) : JW D (d + 1) mX8_among 16 [some (vR 41 r0), some (vR 48 r1), some (vR 46 r2), some (vI x3), some (vI x4), none] [] h Q := by
  unfold W_X8_among_16 at w
  refine jw_iload (pc' := 18) rfl rfl ?_
  refine jw_aload_n (pc' := 19) rfl rfl ?_
  obtain ⟨g_1, w⟩ := w
  refine jw_getI (pc' := 22) (F := 311) rfl rfl rfl rfl g_1 ?_
  refine jw_icmp_ge (tgt := 91) (pc' := 25) rfl rfl (fun c_2 => ?_) (fun c_2 => ?_)
  · replace w := w.1 c_2
    refine jw_iload_n (pc' := 92) rfl rfl ?_
    refine jw_if_eq (tgt := 104) (pc' := 95) rfl rfl (fun c_3 => ?_) (fun c_3 => ?_)
    · replace w := w.1 c_3
      refine jw_aload_n (pc' := 105) rfl rfl ?_
      refine jw_aload_n (pc' := 106) rfl rfl ?_
      refine jw_getI (pc' := 109) (F := 306) rfl rfl rfl rfl g_1 ?_
      refine jw_iconst (pc' := 110) (x := (1 : Int32)) rfl rfl ?_
      refine jw_icmp_ne (tgt := 117) (pc' := 113) rfl rfl (fun c_4 => ?_) (fun c_4 => ?_)
      · replace w := w.1 c_4
        refine jw_iconst (pc' := 118) (x := (0 : Int32)) rfl rfl ?_
        refine jw_gen (ls' := [none, none, none, none, none, none]) (st' := [vI (0 : Int32), vR 41 r0]) (trivial) (And.intro (Or.inl rfl) (And.intro (Or.inl rfl) (trivial))) ?_
        exact w_X8_among_118 w
      · replace w := w.2 c_4
        refine jw_iconst (pc' := 114) (x := (1 : Int32)) rfl rfl ?_
        refine jw_goto (pc' := 118) rfl rfl ?_
        refine jw_gen (ls' := [none, none, none, none, none, none]) (st' := [vI (1 : Int32), vR 41 r0]) (trivial) (And.intro (Or.inl rfl) (And.intro (Or.inl rfl) (trivial))) ?_
        exact w_X8_among_118 w
    · replace w := w.2 c_3
      refine jw_aload_n (pc' := 96) rfl rfl ?_
      refine jw_iconst (pc' := 97) (x := (0 : Int32)) rfl rfl ?_
      refine jw_lconst (pc' := 98) (x := (0 : Int64)) rfl rfl ?_
      obtain ⟨g_5, w⟩ := w
      refine jw_cR (st := []) (sa := [vR 41 r0, vI (0 : Int32), vL (0 : Int64)]) okX8_value rfl rfl rfl rfl rfl rfl (jstp_virtual (sa := [vI (0 : Int32), vL (0 : Int64)]) (st := []) (k := 0) rfl rfl sX8_value okX8_value g_5 (one41.k g_5) rfl rfl) w (fun v_8 h_6 _ _ _ w => ?_)
      refine jw_goto (pc' := 121) rfl rfl ?_
      refine jw_gen (ls' := [none, none, none, none, none, none]) (st' := [vR 46 v_8]) (trivial) (And.intro (Or.inl rfl) (trivial)) ?_
      exact w_X8_among_121 w
  · replace w := w.2 c_2
    refine jw_aload_n (pc' := 26) rfl rfl ?_
    refine jw_iconst (pc' := 27) (x := (0 : Int32)) rfl rfl ?_
    refine jw_aload_n (pc' := 28) rfl rfl ?_
    refine jw_aload_n (pc' := 29) rfl rfl ?_
    refine jw_aload_n (pc' := 30) rfl rfl ?_
    refine jw_getR (pc' := 33) (F := 310) (t' := 215) rfl rfl rfl rfl rfl g_1 ?_
    refine jw_iload (pc' := 35) rfl rfl ?_
    obtain ⟨g_9, w⟩ := w
    obtain ⟨g_10, w⟩ := w
    refine jw_aald (pc' := 36) (t' := 48) rfl rfl rfl rfl g_9 g_10.ix g_10.2 ?_
    obtain ⟨g_11, w⟩ := w
    refine jw_cR (st := [vR 46 r2, vI (0 : Int32), vR 41 r0]) (sa := [vR 41 r0, vR 48 (jar h (jfr h 310 r1) (ixn x4))]) okX8_eval rfl rfl rfl rfl rfl rfl (jstp_virtual (sa := [vR 48 (jar h (jfr h 310 r1) (ixn x4))]) (st := [vR 46 r2, vI (0 : Int32), vR 41 r0]) (k := 0) rfl rfl sX8_eval okX8_eval g_11 (one41.k g_11) rfl rfl) w (fun v_14 h_12 _ _ _ w => ?_)
    refine jw_cR (st := []) (sa := [vR 41 r0, vI (0 : Int32), vR 46 r2, vR 46 v_14]) okX8_told rfl rfl rfl rfl rfl rfl (jstp_virtual (sa := [vI (0 : Int32), vR 46 r2, vR 46 v_14]) (st := []) (k := 0) rfl rfl sX8_told okX8_told g_11 (one41.k g_11) rfl rfl) w (fun v_17 h_15 _ _ _ w => ?_)
    refine jw_astore (pc' := 44) (ls' := [some (vR 41 r0), some (vR 48 r1), some (vR 46 r2), some (vI x3), some (vI x4), some (vR 46 v_17)]) rfl (by decide) rfl ?_
    refine jw_aload (pc' := 46) rfl rfl ?_
    refine jw_cI (st := []) (sa := [vR 46 v_17]) okX8_isTrue rfl rfl rfl rfl rfl rfl (jstp_static (sa := [vR 46 v_17]) (st := []) rfl rfl sX8_isTrue okX8_isTrue rfl rfl) w (fun v_20 h_18 _ _ w => ?_)
    refine jw_if_eq (tgt := 69) (pc' := 52) rfl rfl (fun c_21 => ?_) (fun c_21 => ?_)
    · replace w := w.1 c_21
      refine jw_iload_n (pc' := 70) rfl rfl ?_
      refine jw_aload (pc' := 72) rfl rfl ?_
      obtain ⟨g_22, w⟩ := w
      refine jw_getI (pc' := 75) (F := 266) rfl rfl rfl rfl g_22 ?_
      refine jw_if_ne (tgt := 82) (pc' := 78) rfl rfl (fun c_23 => ?_) (fun c_23 => ?_)
      · replace w := w.1 c_23
        refine jw_iconst (pc' := 83) (x := (0 : Int32)) rfl rfl ?_
        refine jw_gen (ls' := [some (vR 41 r0), some (vR 48 r1), some (vR 46 r2), none, some (vI x4), none]) (st' := [vI (0 : Int32), vI x3]) (And.intro (Or.inl rfl) (And.intro (Or.inl rfl) (And.intro (Or.inl rfl) (And.intro (Or.inl rfl) (trivial))))) (And.intro (Or.inl rfl) (And.intro (Or.inl rfl) (trivial))) ?_
        exact w_X8_among_83 hK16 w
      · replace w := w.2 c_23
        refine jw_iconst (pc' := 79) (x := (1 : Int32)) rfl rfl ?_
        refine jw_goto (pc' := 83) rfl rfl ?_
        refine jw_gen (ls' := [some (vR 41 r0), some (vR 48 r1), some (vR 46 r2), none, some (vI x4), none]) (st' := [vI (1 : Int32), vI x3]) (And.intro (Or.inl rfl) (And.intro (Or.inl rfl) (And.intro (Or.inl rfl) (And.intro (Or.inl rfl) (trivial))))) (And.intro (Or.inl rfl) (And.intro (Or.inl rfl) (trivial))) ?_
        exact w_X8_among_83 hK16 w
    · replace w := w.2 c_21
      refine jw_aload_n (pc' := 53) rfl rfl ?_
      refine jw_aload_n (pc' := 54) rfl rfl ?_
      refine jw_getI (pc' := 57) (F := 306) rfl rfl rfl rfl g_1 ?_
      refine jw_if_ne (tgt := 64) (pc' := 60) rfl rfl (fun c_24 => ?_) (fun c_24 => ?_)
      · replace w := w.1 c_24
        refine jw_iconst (pc' := 65) (x := (0 : Int32)) rfl rfl ?_
        refine jw_gen (ls' := [none, none, none, none, none, none]) (st' := [vI (0 : Int32), vR 41 r0]) (trivial) (And.intro (Or.inl rfl) (And.intro (Or.inl rfl) (trivial))) ?_
        exact w_X8_among_65 w
      · replace w := w.2 c_24
        refine jw_iconst (pc' := 61) (x := (1 : Int32)) rfl rfl ?_
        refine jw_goto (pc' := 65) rfl rfl ?_
        refine jw_gen (ls' := [none, none, none, none, none, none]) (st' := [vI (1 : Int32), vR 41 r0]) (trivial) (And.intro (Or.inl rfl) (And.intro (Or.inl rfl) (trivial))) ?_
        exact w_X8_among_65 w
def L_X8_among_16 (D : JD) (d : Nat) (Q : JO → JH → Prop) : Nat → Nat → Nat → Nat → Int32 → Int32 → JH → Prop
  | 0 => fun _ _ _ _ _ _ => False
  | n + 1 => fun r0 r1 r2 x3 x4 h => W_X8_among_16 D d Q (L_X8_among_16 D d Q n) r0 r1 r2 x3 x4 h
theorem l_X8_among_16 {D : JD} {d : Nat} {Q : JO → JH → Prop} : ∀ (n : Nat) (r0 : Nat) (r1 : Nat) (r2 : Nat) (x3 : Int32) (x4 : Int32) (h : JH), L_X8_among_16 D d Q n r0 r1 r2 x3 x4 h → JW D (d + 1) mX8_among 16 [some (vR 41 r0), some (vR 48 r1), some (vR 46 r2), some (vI x3), some (vI x4), none] [] h Q := by
  intro n
  induction n with
  | zero => intro _ _ _ _ _ _ w; exact w.elim
  | succ n ih => intro _ _ _ _ _ h w; exact w_X8_among_16 ih w
def W_X8_among_0 (D : JD) (d : Nat) (Q : JO → JH → Prop) (r0 : Nat) (r1 : Nat) (h : JH) : Prop :=
  r1 ≠ 0 ∧ ((jfr h 310 r1) ≠ 0 ∧ jin (0 : Int32) (jln h (jfr h 310 r1)) ∧ (r0 ≠ 0 ∧ (cX8_eval D d r0 (jar h (jfr h 310 r1) (ixn (0 : Int32))) h (pR D h 46 (fun v_7 h_5 => ∃ n, L_X8_among_16 D d Q n r0 r1 v_7 (0 : Int32) (1 : Int32) h_5) (jth Q)))))
theorem w_X8_among_0 {D : JD} {d : Nat} {Q : JO → JH → Prop} {r0 : Nat} {r1 : Nat} {h : JH} (w : W_X8_among_0 D d Q r0 r1 h) : JW D (d + 1) mX8_among 0 [some (vR 41 r0), some (vR 48 r1), none, none, none, none] [] h Q := by
  unfold W_X8_among_0 at w
  refine jw_aload_n (pc' := 1) rfl rfl ?_
  refine jw_aload_n (pc' := 2) rfl rfl ?_
  obtain ⟨g_1, w⟩ := w
  refine jw_getR (pc' := 5) (F := 310) (t' := 215) rfl rfl rfl rfl rfl g_1 ?_
  refine jw_iconst (pc' := 6) (x := (0 : Int32)) rfl rfl ?_
  obtain ⟨g_2, w⟩ := w
  obtain ⟨g_3, w⟩ := w
  refine jw_aald (pc' := 7) (t' := 48) rfl rfl rfl rfl g_2 g_3.ix g_3.2 ?_
  obtain ⟨g_4, w⟩ := w
  refine jw_cR (st := []) (sa := [vR 41 r0, vR 48 (jar h (jfr h 310 r1) (ixn (0 : Int32)))]) okX8_eval rfl rfl rfl rfl rfl rfl (jstp_virtual (sa := [vR 48 (jar h (jfr h 310 r1) (ixn (0 : Int32)))]) (st := []) (k := 0) rfl rfl sX8_eval okX8_eval g_4 (one41.k g_4) rfl rfl) w (fun v_7 h_5 _ _ _ w => ?_)
  refine jw_astore_n (pc' := 11) (ls' := [some (vR 41 r0), some (vR 48 r1), some (vR 46 v_7), none, none, none]) rfl (by decide) rfl ?_
  refine jw_iconst (pc' := 12) (x := (0 : Int32)) rfl rfl ?_
  refine jw_istore_n (pc' := 13) (ls' := [some (vR 41 r0), some (vR 48 r1), some (vR 46 v_7), some (vI (0 : Int32)), none, none]) rfl (by decide) rfl ?_
  refine jw_iconst (pc' := 14) (x := (1 : Int32)) rfl rfl ?_
  refine jw_istore (pc' := 16) (ls' := [some (vR 41 r0), some (vR 48 r1), some (vR 46 v_7), some (vI (0 : Int32)), some (vI (1 : Int32)), none]) rfl (by decide) rfl ?_
  obtain ⟨n, w⟩ := w
  exact l_X8_among_16 n _ _ _ _ _ _ w
def T_X8_among (D : JD) (d : Nat) (Q : JO → JH → Prop) (r0 : Nat) (r1 : Nat) (h : JH) : Prop := W_X8_among_0 D d Q r0 r1 h
theorem t_X8_among {D : JD} {d : Nat} {Q : JO → JH → Prop} {r0 : Nat} {r1 : Nat} {h : JH} (w : T_X8_among D d Q r0 r1 h) : cX8_among D (d + 1) r0 r1 h Q := by
  unfold T_X8_among at w
  unfold cX8_among
  exact w_X8_among_0 w
def W_X8_like_165 (D : JD) (d : Nat) (Q : JO → JH → Prop) (K33 : Nat → Nat → Nat → Int32 → JH → Prop) (r0 : Nat) (r1 : Nat) (r2 : Nat) (x3 : Int32) (h : JH) : Prop :=
  K33 r0 r1 r2 (x3 + (1 : Int32)) h
theorem w_X8_like_165 {D : JD} {d : Nat} {Q : JO → JH → Prop} {K33 : Nat → Nat → Nat → Int32 → JH → Prop} {r0 : Nat} {r1 : Nat} {r2 : Nat} {x3 : Int32} {h : JH} (hK33 : ∀ (r0 : Nat) (r1 : Nat) (r2 : Nat) (x3 : Int32) (h : JH), K33 r0 r1 r2 x3 h → JW D (d + 1) mX8_like 33 [some (vR 41 r0), some (vR 46 r1), some (vR 46 r2), some (vI x3), none, none] [] h Q) (w : W_X8_like_165 D d Q K33 r0 r1 r2 x3 h) : JW D (d + 1) mX8_like 165 [some (vR 41 r0), some (vR 46 r1), some (vR 46 r2), some (vI x3), none, none] [] h Q := by
  unfold W_X8_like_165 at w
  refine jw_iinc (pc' := 168) (y := x3 + (1 : Int32)) (ls' := [some (vR 41 r0), some (vR 46 r1), some (vR 46 r2), some (vI (x3 + (1 : Int32))), none, none]) rfl (by decide) rfl rfl rfl ?_
  refine jw_goto (pc' := 33) rfl rfl ?_
  exact hK33 _ _ _ _ _ w
def W_X8_like_151 (D : JD) (d : Nat) (Q : JO → JH → Prop) (K33 : Nat → Nat → Nat → Int32 → JH → Prop) (K102 : Nat → Nat → Nat → Int32 → Int32 → Int32 → JH → Prop) (r0 : Nat) (r1 : Nat) (r2 : Nat) (x3 : Int32) (x4 : Int32) (x5 : Int32) (q0 : Nat) (s1 : Int32) (s2 : Int32) (h : JH) : Prop :=
  q0 ≠ 0 ∧ jin s1 (jln h q0) ∧ jbo s2 ∧ ∀ h_4 : JH, h_4 = wai h q0 (ixn s1) s2 → (K102 r0 r1 r2 x3 x4 (x5 + (-1 : Int32)) h_4)
theorem w_X8_like_151 {D : JD} {d : Nat} {Q : JO → JH → Prop} {K33 : Nat → Nat → Nat → Int32 → JH → Prop} {K102 : Nat → Nat → Nat → Int32 → Int32 → Int32 → JH → Prop} {r0 : Nat} {r1 : Nat} {r2 : Nat} {x3 : Int32} {x4 : Int32} {x5 : Int32} {q0 : Nat} {s1 : Int32} {s2 : Int32} {h : JH} (hK33 : ∀ (r0 : Nat) (r1 : Nat) (r2 : Nat) (x3 : Int32) (h : JH), K33 r0 r1 r2 x3 h → JW D (d + 1) mX8_like 33 [some (vR 41 r0), some (vR 46 r1), some (vR 46 r2), some (vI x3), none, none] [] h Q) (hK102 : ∀ (r0 : Nat) (r1 : Nat) (r2 : Nat) (x3 : Int32) (x4 : Int32) (x5 : Int32) (h : JH), K102 r0 r1 r2 x3 x4 x5 h → JW D (d + 1) mX8_like 102 [some (vR 41 r0), some (vR 46 r1), some (vR 46 r2), some (vI x3), some (vI x4), some (vI x5)] [] h Q) (w : W_X8_like_151 D d Q K33 K102 r0 r1 r2 x3 x4 x5 q0 s1 s2 h) : JW D (d + 1) mX8_like 151 [some (vR 41 r0), some (vR 46 r1), some (vR 46 r2), some (vI x3), some (vI x4), some (vI x5)] [vI s2, vI s1, vR 169 q0] h Q := by
  unfold W_X8_like_151 at w
  obtain ⟨g_1, w⟩ := w
  obtain ⟨g_2, w⟩ := w
  obtain ⟨g_3, w⟩ := w
  refine jw_zast' (pc' := 152) rfl rfl rfl rfl rfl (g_3.nr) g_1 g_2 (fun h_4 e_5 => ?_)
  replace w := w h_4 e_5
  refine jw_iinc (pc' := 155) (y := x5 + (-1 : Int32)) (ls' := [some (vR 41 r0), some (vR 46 r1), some (vR 46 r2), some (vI x3), some (vI x4), some (vI (x5 + (-1 : Int32)))]) rfl (by decide) rfl rfl rfl ?_
  refine jw_goto (pc' := 102) rfl rfl ?_
  exact hK102 _ _ _ _ _ _ _ w
def W_X8_like_150 (D : JD) (d : Nat) (Q : JO → JH → Prop) (K33 : Nat → Nat → Nat → Int32 → JH → Prop) (K102 : Nat → Nat → Nat → Int32 → Int32 → Int32 → JH → Prop) (r0 : Nat) (r1 : Nat) (r2 : Nat) (x3 : Int32) (x4 : Int32) (x5 : Int32) (q0 : Nat) (s1 : Int32) (h : JH) : Prop :=
  W_X8_like_151 D d Q K33 K102 r0 r1 r2 x3 x4 x5 q0 s1 (0 : Int32) h
theorem w_X8_like_150 {D : JD} {d : Nat} {Q : JO → JH → Prop} {K33 : Nat → Nat → Nat → Int32 → JH → Prop} {K102 : Nat → Nat → Nat → Int32 → Int32 → Int32 → JH → Prop} {r0 : Nat} {r1 : Nat} {r2 : Nat} {x3 : Int32} {x4 : Int32} {x5 : Int32} {q0 : Nat} {s1 : Int32} {h : JH} (hK33 : ∀ (r0 : Nat) (r1 : Nat) (r2 : Nat) (x3 : Int32) (h : JH), K33 r0 r1 r2 x3 h → JW D (d + 1) mX8_like 33 [some (vR 41 r0), some (vR 46 r1), some (vR 46 r2), some (vI x3), none, none] [] h Q) (hK102 : ∀ (r0 : Nat) (r1 : Nat) (r2 : Nat) (x3 : Int32) (x4 : Int32) (x5 : Int32) (h : JH), K102 r0 r1 r2 x3 x4 x5 h → JW D (d + 1) mX8_like 102 [some (vR 41 r0), some (vR 46 r1), some (vR 46 r2), some (vI x3), some (vI x4), some (vI x5)] [] h Q) (w : W_X8_like_150 D d Q K33 K102 r0 r1 r2 x3 x4 x5 q0 s1 h) : JW D (d + 1) mX8_like 150 [some (vR 41 r0), some (vR 46 r1), some (vR 46 r2), some (vI x3), some (vI x4), some (vI x5)] [vI s1, vR 169 q0] h Q := by
  unfold W_X8_like_150 at w
  refine jw_iconst (pc' := 151) (x := (0 : Int32)) rfl rfl ?_
  exact w_X8_like_151 hK33 hK102 w
def W_X8_like_146 (D : JD) (d : Nat) (Q : JO → JH → Prop) (K33 : Nat → Nat → Nat → Int32 → JH → Prop) (K102 : Nat → Nat → Nat → Int32 → Int32 → Int32 → JH → Prop) (r0 : Nat) (r1 : Nat) (r2 : Nat) (x3 : Int32) (x4 : Int32) (x5 : Int32) (q0 : Nat) (s1 : Int32) (h : JH) : Prop :=
  W_X8_like_151 D d Q K33 K102 r0 r1 r2 x3 x4 x5 q0 s1 (1 : Int32) h
theorem w_X8_like_146 {D : JD} {d : Nat} {Q : JO → JH → Prop} {K33 : Nat → Nat → Nat → Int32 → JH → Prop} {K102 : Nat → Nat → Nat → Int32 → Int32 → Int32 → JH → Prop} {r0 : Nat} {r1 : Nat} {r2 : Nat} {x3 : Int32} {x4 : Int32} {x5 : Int32} {q0 : Nat} {s1 : Int32} {h : JH} (hK33 : ∀ (r0 : Nat) (r1 : Nat) (r2 : Nat) (x3 : Int32) (h : JH), K33 r0 r1 r2 x3 h → JW D (d + 1) mX8_like 33 [some (vR 41 r0), some (vR 46 r1), some (vR 46 r2), some (vI x3), none, none] [] h Q) (hK102 : ∀ (r0 : Nat) (r1 : Nat) (r2 : Nat) (x3 : Int32) (x4 : Int32) (x5 : Int32) (h : JH), K102 r0 r1 r2 x3 x4 x5 h → JW D (d + 1) mX8_like 102 [some (vR 41 r0), some (vR 46 r1), some (vR 46 r2), some (vI x3), some (vI x4), some (vI x5)] [] h Q) (w : W_X8_like_146 D d Q K33 K102 r0 r1 r2 x3 x4 x5 q0 s1 h) : JW D (d + 1) mX8_like 146 [some (vR 41 r0), some (vR 46 r1), some (vR 46 r2), some (vI x3), some (vI x4), some (vI x5)] [vI s1, vR 169 q0] h Q := by
  unfold W_X8_like_146 at w
  refine jw_iconst (pc' := 147) (x := (1 : Int32)) rfl rfl ?_
  refine jw_goto (pc' := 151) rfl rfl ?_
  exact w_X8_like_151 hK33 hK102 w
def W_X8_like_102 (D : JD) (d : Nat) (Q : JO → JH → Prop) (K33 : Nat → Nat → Nat → Int32 → JH → Prop) (K102 : Nat → Nat → Nat → Int32 → Int32 → Int32 → JH → Prop) (r0 : Nat) (r1 : Nat) (r2 : Nat) (x3 : Int32) (x4 : Int32) (x5 : Int32) (h : JH) : Prop :=
  (x5 ≤ 0 → r0 ≠ 0 ∧ ((jfr h 207 r0) ≠ 0 ∧ jin (0 : Int32) (jln h (jfr h 207 r0)) ∧ ∀ h_5 : JH, h_5 = wai h (jfr h 207 r0) (ixn (0 : Int32)) (0 : Int32) → (W_X8_like_165 D d Q K33 r0 r1 r2 x3 h_5))) ∧ (¬ x5 ≤ 0 → r0 ≠ 0 ∧ ((jfr h 207 r0) ≠ 0 ∧ jin (x5 - (1 : Int32)) (jln h (jfr h 207 r0)) ∧ (((jai h (jfr h 207 r0) (ixn (x5 - (1 : Int32)))) = 0 → W_X8_like_150 D d Q K33 K102 r0 r1 r2 x3 x4 x5 (jfr h 207 r0) x5 h) ∧ (¬ (jai h (jfr h 207 r0) (ixn (x5 - (1 : Int32)))) = 0 → (x4 = (95 : Int32) → W_X8_like_146 D d Q K33 K102 r0 r1 r2 x3 x4 x5 (jfr h 207 r0) x5 h) ∧ (¬ x4 = (95 : Int32) → r1 ≠ 0 ∧ ((jfr h 269 r1) ≠ 0 ∧ jin (x5 - (1 : Int32)) (jln h (jfr h 269 r1)) ∧ ((¬ x4 = (jai h (jfr h 269 r1) (ixn (x5 - (1 : Int32)))) → W_X8_like_150 D d Q K33 K102 r0 r1 r2 x3 x4 x5 (jfr h 207 r0) x5 h) ∧ (x4 = (jai h (jfr h 269 r1) (ixn (x5 - (1 : Int32)))) → W_X8_like_146 D d Q K33 K102 r0 r1 r2 x3 x4 x5 (jfr h 207 r0) x5 h))))))))
theorem w_X8_like_102 {D : JD} {d : Nat} {Q : JO → JH → Prop} {K33 : Nat → Nat → Nat → Int32 → JH → Prop} {K102 : Nat → Nat → Nat → Int32 → Int32 → Int32 → JH → Prop} {r0 : Nat} {r1 : Nat} {r2 : Nat} {x3 : Int32} {x4 : Int32} {x5 : Int32} {h : JH} (hK33 : ∀ (r0 : Nat) (r1 : Nat) (r2 : Nat) (x3 : Int32) (h : JH), K33 r0 r1 r2 x3 h → JW D (d + 1) mX8_like 33 [some (vR 41 r0), some (vR 46 r1), some (vR 46 r2), some (vI x3), none, none] [] h Q) (hK102 : ∀ (r0 : Nat) (r1 : Nat) (r2 : Nat) (x3 : Int32) (x4 : Int32) (x5 : Int32) (h : JH), K102 r0 r1 r2 x3 x4 x5 h → JW D (d + 1) mX8_like 102 [some (vR 41 r0), some (vR 46 r1), some (vR 46 r2), some (vI x3), some (vI x4), some (vI x5)] [] h Q) (w : W_X8_like_102 D d Q K33 K102 r0 r1 r2 x3 x4 x5 h) : JW D (d + 1) mX8_like 102 [some (vR 41 r0), some (vR 46 r1), some (vR 46 r2), some (vI x3), some (vI x4), some (vI x5)] [] h Q := by
  unfold W_X8_like_102 at w
  refine jw_iload (pc' := 104) rfl rfl ?_
  refine jw_if_le (tgt := 158) (pc' := 107) rfl rfl (fun c_1 => ?_) (fun c_1 => ?_)
  · replace w := w.1 c_1
    refine jw_aload_n (pc' := 159) rfl rfl ?_
    obtain ⟨g_2, w⟩ := w
    refine jw_getR (pc' := 162) (F := 207) (t' := 169) rfl rfl rfl rfl rfl g_2 ?_
    refine jw_iconst (pc' := 163) (x := (0 : Int32)) rfl rfl ?_
    refine jw_iconst (pc' := 164) (x := (0 : Int32)) rfl rfl ?_
    obtain ⟨g_3, w⟩ := w
    obtain ⟨g_4, w⟩ := w
    refine jw_zast' (pc' := 165) rfl rfl rfl rfl rfl (rfl) g_3 g_4 (fun h_5 e_6 => ?_)
    replace w := w h_5 e_6
    refine jw_gen (ls' := [some (vR 41 r0), some (vR 46 r1), some (vR 46 r2), some (vI x3), none, none]) (st' := []) (And.intro (Or.inl rfl) (And.intro (Or.inl rfl) (And.intro (Or.inl rfl) (And.intro (Or.inl rfl) (trivial))))) (trivial) ?_
    exact w_X8_like_165 hK33 w
  · replace w := w.2 c_1
    refine jw_aload_n (pc' := 108) rfl rfl ?_
    obtain ⟨g_7, w⟩ := w
    refine jw_getR (pc' := 111) (F := 207) (t' := 169) rfl rfl rfl rfl rfl g_7 ?_
    refine jw_iload (pc' := 113) rfl rfl ?_
    refine jw_aload_n (pc' := 114) rfl rfl ?_
    refine jw_getR (pc' := 117) (F := 207) (t' := 169) rfl rfl rfl rfl rfl g_7 ?_
    refine jw_iload (pc' := 119) rfl rfl ?_
    refine jw_iconst (pc' := 120) (x := (1 : Int32)) rfl rfl ?_
    refine jw_isub (pc' := 121) rfl ?_
    obtain ⟨g_8, w⟩ := w
    obtain ⟨g_9, w⟩ := w
    refine jw_zald (pc' := 122) rfl rfl rfl rfl g_8 g_9.ix g_9.2 ?_
    refine jw_if_eq (tgt := 150) (pc' := 125) rfl rfl (fun c_10 => ?_) (fun c_10 => ?_)
    · replace w := w.1 c_10
      exact w_X8_like_150 hK33 hK102 w
    · replace w := w.2 c_10
      refine jw_iload (pc' := 127) rfl rfl ?_
      refine jw_bipush (pc' := 129) (x := (95 : Int32)) rfl rfl ?_
      refine jw_icmp_eq (tgt := 146) (pc' := 132) rfl rfl (fun c_11 => ?_) (fun c_11 => ?_)
      · replace w := w.1 c_11
        exact w_X8_like_146 hK33 hK102 w
      · replace w := w.2 c_11
        refine jw_iload (pc' := 134) rfl rfl ?_
        refine jw_aload_n (pc' := 135) rfl rfl ?_
        obtain ⟨g_12, w⟩ := w
        refine jw_getR (pc' := 138) (F := 269) (t' := 197) rfl rfl rfl rfl rfl g_12 ?_
        refine jw_iload (pc' := 140) rfl rfl ?_
        refine jw_iconst (pc' := 141) (x := (1 : Int32)) rfl rfl ?_
        refine jw_isub (pc' := 142) rfl ?_
        obtain ⟨g_13, w⟩ := w
        obtain ⟨g_14, w⟩ := w
        refine jw_bald (pc' := 143) rfl rfl rfl rfl g_13 g_14.ix g_14.2 ?_
        refine jw_icmp_ne (tgt := 150) (pc' := 146) rfl rfl (fun c_15 => ?_) (fun c_15 => ?_)
        · replace w := w.1 c_15
          exact w_X8_like_150 hK33 hK102 w
        · replace w := w.2 c_15
          exact w_X8_like_146 hK33 hK102 w
def L_X8_like_102 (D : JD) (d : Nat) (Q : JO → JH → Prop) (K33 : Nat → Nat → Nat → Int32 → JH → Prop) : Nat → Nat → Nat → Nat → Int32 → Int32 → Int32 → JH → Prop
  | 0 => fun _ _ _ _ _ _ _ => False
  | n + 1 => fun r0 r1 r2 x3 x4 x5 h => W_X8_like_102 D d Q K33 (L_X8_like_102 D d Q K33 n) r0 r1 r2 x3 x4 x5 h
theorem l_X8_like_102 {D : JD} {d : Nat} {Q : JO → JH → Prop} {K33 : Nat → Nat → Nat → Int32 → JH → Prop} (hK33 : ∀ (r0 : Nat) (r1 : Nat) (r2 : Nat) (x3 : Int32) (h : JH), K33 r0 r1 r2 x3 h → JW D (d + 1) mX8_like 33 [some (vR 41 r0), some (vR 46 r1), some (vR 46 r2), some (vI x3), none, none] [] h Q) : ∀ (n : Nat) (r0 : Nat) (r1 : Nat) (r2 : Nat) (x3 : Int32) (x4 : Int32) (x5 : Int32) (h : JH), L_X8_like_102 D d Q K33 n r0 r1 r2 x3 x4 x5 h → JW D (d + 1) mX8_like 102 [some (vR 41 r0), some (vR 46 r1), some (vR 46 r2), some (vI x3), some (vI x4), some (vI x5)] [] h Q := by
  intro n
  induction n with
  | zero => intro _ _ _ _ _ _ _ w; exact w.elim
  | succ n ih => intro _ _ _ _ _ _ h w; exact w_X8_like_102 hK33 ih w
def W_X8_like_59 (D : JD) (d : Nat) (Q : JO → JH → Prop) (K33 : Nat → Nat → Nat → Int32 → JH → Prop) (K59 : Nat → Nat → Nat → Int32 → Int32 → JH → Prop) (r0 : Nat) (r1 : Nat) (r2 : Nat) (x3 : Int32) (x5 : Int32) (h : JH) : Prop :=
  r1 ≠ 0 ∧ (((jfi h 268 r1) < x5 → W_X8_like_165 D d Q K33 r0 r1 r2 x3 h) ∧ (¬ (jfi h 268 r1) < x5 → r0 ≠ 0 ∧ ((jfr h 207 r0) ≠ 0 ∧ jin x5 (jln h (jfr h 207 r0)) ∧ (jin (x5 - (1 : Int32)) (jln h (jfr h 207 r0)) ∧ (jin x5 (jln h (jfr h 207 r0)) ∧ jbo ((jai h (jfr h 207 r0) (ixn x5)) ||| (jai h (jfr h 207 r0) (ixn (x5 - (1 : Int32))))) ∧ ∀ h_9 : JH, h_9 = wai h (jfr h 207 r0) (ixn x5) ((jai h (jfr h 207 r0) (ixn x5)) ||| (jai h (jfr h 207 r0) (ixn (x5 - (1 : Int32))))) → (K59 r0 r1 r2 x3 (x5 + (1 : Int32)) h_9))))))
theorem w_X8_like_59 {D : JD} {d : Nat} {Q : JO → JH → Prop} {K33 : Nat → Nat → Nat → Int32 → JH → Prop} {K59 : Nat → Nat → Nat → Int32 → Int32 → JH → Prop} {r0 : Nat} {r1 : Nat} {r2 : Nat} {x3 : Int32} {x5 : Int32} {h : JH} (hK33 : ∀ (r0 : Nat) (r1 : Nat) (r2 : Nat) (x3 : Int32) (h : JH), K33 r0 r1 r2 x3 h → JW D (d + 1) mX8_like 33 [some (vR 41 r0), some (vR 46 r1), some (vR 46 r2), some (vI x3), none, none] [] h Q) (hK59 : ∀ (r0 : Nat) (r1 : Nat) (r2 : Nat) (x3 : Int32) (x5 : Int32) (h : JH), K59 r0 r1 r2 x3 x5 h → JW D (d + 1) mX8_like 59 [some (vR 41 r0), some (vR 46 r1), some (vR 46 r2), some (vI x3), none, some (vI x5)] [] h Q) (w : W_X8_like_59 D d Q K33 K59 r0 r1 r2 x3 x5 h) : JW D (d + 1) mX8_like 59 [some (vR 41 r0), some (vR 46 r1), some (vR 46 r2), some (vI x3), none, some (vI x5)] [] h Q := by
  unfold W_X8_like_59 at w
  refine jw_iload (pc' := 61) rfl rfl ?_
  refine jw_aload_n (pc' := 62) rfl rfl ?_
  obtain ⟨g_1, w⟩ := w
  refine jw_getI (pc' := 65) (F := 268) rfl rfl rfl rfl g_1 ?_
  refine jw_icmp_gt (tgt := 93) (pc' := 68) rfl rfl (fun c_2 => ?_) (fun c_2 => ?_)
  · replace w := w.1 c_2
    refine jw_goto (pc' := 165) rfl rfl ?_
    refine jw_gen (ls' := [some (vR 41 r0), some (vR 46 r1), some (vR 46 r2), some (vI x3), none, none]) (st' := []) (And.intro (Or.inl rfl) (And.intro (Or.inl rfl) (And.intro (Or.inl rfl) (And.intro (Or.inl rfl) (trivial))))) (trivial) ?_
    exact w_X8_like_165 hK33 w
  · replace w := w.2 c_2
    refine jw_aload_n (pc' := 69) rfl rfl ?_
    obtain ⟨g_3, w⟩ := w
    refine jw_getR (pc' := 72) (F := 207) (t' := 169) rfl rfl rfl rfl rfl g_3 ?_
    refine jw_iload (pc' := 74) rfl rfl ?_
    refine jw_dup2 (pc' := 75) rfl rfl rfl ?_
    obtain ⟨g_4, w⟩ := w
    obtain ⟨g_5, w⟩ := w
    refine jw_zald (pc' := 76) rfl rfl rfl rfl g_4 g_5.ix g_5.2 ?_
    refine jw_aload_n (pc' := 77) rfl rfl ?_
    refine jw_getR (pc' := 80) (F := 207) (t' := 169) rfl rfl rfl rfl rfl g_3 ?_
    refine jw_iload (pc' := 82) rfl rfl ?_
    refine jw_iconst (pc' := 83) (x := (1 : Int32)) rfl rfl ?_
    refine jw_isub (pc' := 84) rfl ?_
    obtain ⟨g_6, w⟩ := w
    refine jw_zald (pc' := 85) rfl rfl rfl rfl g_4 g_6.ix g_6.2 ?_
    refine jw_ior (pc' := 86) rfl ?_
    obtain ⟨g_7, w⟩ := w
    obtain ⟨g_8, w⟩ := w
    refine jw_zast' (pc' := 87) rfl rfl rfl rfl rfl (g_8.nr) g_4 g_7 (fun h_9 e_10 => ?_)
    replace w := w h_9 e_10
    refine jw_iinc (pc' := 90) (y := x5 + (1 : Int32)) (ls' := [some (vR 41 r0), some (vR 46 r1), some (vR 46 r2), some (vI x3), none, some (vI (x5 + (1 : Int32)))]) rfl (by decide) rfl rfl rfl ?_
    refine jw_goto (pc' := 59) rfl rfl ?_
    exact hK59 _ _ _ _ _ _ w
def L_X8_like_59 (D : JD) (d : Nat) (Q : JO → JH → Prop) (K33 : Nat → Nat → Nat → Int32 → JH → Prop) : Nat → Nat → Nat → Nat → Int32 → Int32 → JH → Prop
  | 0 => fun _ _ _ _ _ _ => False
  | n + 1 => fun r0 r1 r2 x3 x5 h => W_X8_like_59 D d Q K33 (L_X8_like_59 D d Q K33 n) r0 r1 r2 x3 x5 h
theorem l_X8_like_59 {D : JD} {d : Nat} {Q : JO → JH → Prop} {K33 : Nat → Nat → Nat → Int32 → JH → Prop} (hK33 : ∀ (r0 : Nat) (r1 : Nat) (r2 : Nat) (x3 : Int32) (h : JH), K33 r0 r1 r2 x3 h → JW D (d + 1) mX8_like 33 [some (vR 41 r0), some (vR 46 r1), some (vR 46 r2), some (vI x3), none, none] [] h Q) : ∀ (n : Nat) (r0 : Nat) (r1 : Nat) (r2 : Nat) (x3 : Int32) (x5 : Int32) (h : JH), L_X8_like_59 D d Q K33 n r0 r1 r2 x3 x5 h → JW D (d + 1) mX8_like 59 [some (vR 41 r0), some (vR 46 r1), some (vR 46 r2), some (vI x3), none, some (vI x5)] [] h Q := by
  intro n
  induction n with
  | zero => intro _ _ _ _ _ _ w; exact w.elim
  | succ n ih => intro _ _ _ _ _ h w; exact w_X8_like_59 hK33 ih w
def W_X8_like_33 (D : JD) (d : Nat) (Q : JO → JH → Prop) (K33 : Nat → Nat → Nat → Int32 → JH → Prop) (r0 : Nat) (r1 : Nat) (r2 : Nat) (x3 : Int32) (h : JH) : Prop :=
  r2 ≠ 0 ∧ (((jfi h 268 r2) ≤ x3 → r0 ≠ 0 ∧ (r1 ≠ 0 ∧ ((jfr h 207 r0) ≠ 0 ∧ jin (jfi h 268 r1) (jln h (jfr h 207 r0)) ∧ (jbo (jai h (jfr h 207 r0) (ixn (jfi h 268 r1))) ∧ (Q (.inl (some (vI (jai h (jfr h 207 r0) (ixn (jfi h 268 r1)))))) h))))) ∧ (¬ (jfi h 268 r2) ≤ x3 → (jfr h 269 r2) ≠ 0 ∧ jin x3 (jln h (jfr h 269 r2)) ∧ ((¬ (jai h (jfr h 269 r2) (ixn x3)) = (37 : Int32) → r1 ≠ 0 ∧ (∃ n, L_X8_like_102 D d Q K33 n r0 r1 r2 x3 (jai h (jfr h 269 r2) (ixn x3)) (jfi h 268 r1) h)) ∧ ((jai h (jfr h 269 r2) (ixn x3)) = (37 : Int32) → ∃ n, L_X8_like_59 D d Q K33 n r0 r1 r2 x3 (1 : Int32) h))))
theorem w_X8_like_33 {D : JD} {d : Nat} {Q : JO → JH → Prop} {K33 : Nat → Nat → Nat → Int32 → JH → Prop} {r0 : Nat} {r1 : Nat} {r2 : Nat} {x3 : Int32} {h : JH} (hK33 : ∀ (r0 : Nat) (r1 : Nat) (r2 : Nat) (x3 : Int32) (h : JH), K33 r0 r1 r2 x3 h → JW D (d + 1) mX8_like 33 [some (vR 41 r0), some (vR 46 r1), some (vR 46 r2), some (vI x3), none, none] [] h Q) (w : W_X8_like_33 D d Q K33 r0 r1 r2 x3 h) : JW D (d + 1) mX8_like 33 [some (vR 41 r0), some (vR 46 r1), some (vR 46 r2), some (vI x3), none, none] [] h Q := by
  unfold W_X8_like_33 at w
  refine jw_iload_n (pc' := 34) rfl rfl ?_
  refine jw_aload_n (pc' := 35) rfl rfl ?_
  obtain ⟨g_1, w⟩ := w
  refine jw_getI (pc' := 38) (F := 268) rfl rfl rfl rfl g_1 ?_
  refine jw_icmp_ge (tgt := 171) (pc' := 41) rfl rfl (fun c_2 => ?_) (fun c_2 => ?_)
  · replace w := w.1 c_2
    refine jw_aload_n (pc' := 172) rfl rfl ?_
    obtain ⟨g_3, w⟩ := w
    refine jw_getR (pc' := 175) (F := 207) (t' := 169) rfl rfl rfl rfl rfl g_3 ?_
    refine jw_aload_n (pc' := 176) rfl rfl ?_
    obtain ⟨g_4, w⟩ := w
    refine jw_getI (pc' := 179) (F := 268) rfl rfl rfl rfl g_4 ?_
    obtain ⟨g_5, w⟩ := w
    obtain ⟨g_6, w⟩ := w
    refine jw_zald (pc' := 180) rfl rfl rfl rfl g_5 g_6.ix g_6.2 ?_
    obtain ⟨g_7, w⟩ := w
    exact jw_ireturn rfl rfl (g_7.nr) w
  · replace w := w.2 c_2
    refine jw_aload_n (pc' := 42) rfl rfl ?_
    refine jw_getR (pc' := 45) (F := 269) (t' := 197) rfl rfl rfl rfl rfl g_1 ?_
    refine jw_iload_n (pc' := 46) rfl rfl ?_
    obtain ⟨g_8, w⟩ := w
    obtain ⟨g_9, w⟩ := w
    refine jw_bald (pc' := 47) rfl rfl rfl rfl g_8 g_9.ix g_9.2 ?_
    refine jw_istore (pc' := 49) (ls' := [some (vR 41 r0), some (vR 46 r1), some (vR 46 r2), some (vI x3), some (vI (jai h (jfr h 269 r2) (ixn x3))), none]) rfl (by decide) rfl ?_
    refine jw_iload (pc' := 51) rfl rfl ?_
    refine jw_bipush (pc' := 53) (x := (37 : Int32)) rfl rfl ?_
    refine jw_icmp_ne (tgt := 96) (pc' := 56) rfl rfl (fun c_10 => ?_) (fun c_10 => ?_)
    · replace w := w.1 c_10
      refine jw_aload_n (pc' := 97) rfl rfl ?_
      obtain ⟨g_11, w⟩ := w
      refine jw_getI (pc' := 100) (F := 268) rfl rfl rfl rfl g_11 ?_
      refine jw_istore (pc' := 102) (ls' := [some (vR 41 r0), some (vR 46 r1), some (vR 46 r2), some (vI x3), some (vI (jai h (jfr h 269 r2) (ixn x3))), some (vI (jfi h 268 r1))]) rfl (by decide) rfl ?_
      obtain ⟨n, w⟩ := w
      exact l_X8_like_102 hK33 n _ _ _ _ _ _ _ w
    · replace w := w.2 c_10
      refine jw_iconst (pc' := 57) (x := (1 : Int32)) rfl rfl ?_
      refine jw_istore (pc' := 59) (ls' := [some (vR 41 r0), some (vR 46 r1), some (vR 46 r2), some (vI x3), some (vI (jai h (jfr h 269 r2) (ixn x3))), some (vI (1 : Int32))]) rfl (by decide) rfl ?_
      refine jw_gen (ls' := [some (vR 41 r0), some (vR 46 r1), some (vR 46 r2), some (vI x3), none, some (vI (1 : Int32))]) (st' := []) (And.intro (Or.inl rfl) (And.intro (Or.inl rfl) (And.intro (Or.inl rfl) (And.intro (Or.inl rfl) (And.intro (Or.inl rfl) (trivial)))))) (trivial) ?_
      obtain ⟨n, w⟩ := w
      exact l_X8_like_59 hK33 n _ _ _ _ _ _ w
def L_X8_like_33 (D : JD) (d : Nat) (Q : JO → JH → Prop) : Nat → Nat → Nat → Nat → Int32 → JH → Prop
  | 0 => fun _ _ _ _ _ => False
  | n + 1 => fun r0 r1 r2 x3 h => W_X8_like_33 D d Q (L_X8_like_33 D d Q n) r0 r1 r2 x3 h
theorem l_X8_like_33 {D : JD} {d : Nat} {Q : JO → JH → Prop} : ∀ (n : Nat) (r0 : Nat) (r1 : Nat) (r2 : Nat) (x3 : Int32) (h : JH), L_X8_like_33 D d Q n r0 r1 r2 x3 h → JW D (d + 1) mX8_like 33 [some (vR 41 r0), some (vR 46 r1), some (vR 46 r2), some (vI x3), none, none] [] h Q := by
  intro n
  induction n with
  | zero => intro _ _ _ _ _ w; exact w.elim
  | succ n ih => intro _ _ _ _ h w; exact w_X8_like_33 ih w
def W_X8_like_24 (D : JD) (d : Nat) (Q : JO → JH → Prop) (K2 : Nat → Nat → Nat → Int32 → JH → Prop) (r0 : Nat) (r1 : Nat) (r2 : Nat) (x3 : Int32) (q0 : Nat) (s1 : Int32) (s2 : Int32) (h : JH) : Prop :=
  q0 ≠ 0 ∧ jin s1 (jln h q0) ∧ jbo s2 ∧ ∀ h_4 : JH, h_4 = wai h q0 (ixn s1) s2 → (K2 r0 r1 r2 (x3 + (1 : Int32)) h_4)
theorem w_X8_like_24 {D : JD} {d : Nat} {Q : JO → JH → Prop} {K2 : Nat → Nat → Nat → Int32 → JH → Prop} {r0 : Nat} {r1 : Nat} {r2 : Nat} {x3 : Int32} {q0 : Nat} {s1 : Int32} {s2 : Int32} {h : JH} (hK2 : ∀ (r0 : Nat) (r1 : Nat) (r2 : Nat) (x3 : Int32) (h : JH), K2 r0 r1 r2 x3 h → JW D (d + 1) mX8_like 2 [some (vR 41 r0), some (vR 46 r1), some (vR 46 r2), some (vI x3), none, none] [] h Q) (w : W_X8_like_24 D d Q K2 r0 r1 r2 x3 q0 s1 s2 h) : JW D (d + 1) mX8_like 24 [some (vR 41 r0), some (vR 46 r1), some (vR 46 r2), some (vI x3), none, none] [vI s2, vI s1, vR 169 q0] h Q := by
  unfold W_X8_like_24 at w
  obtain ⟨g_1, w⟩ := w
  obtain ⟨g_2, w⟩ := w
  obtain ⟨g_3, w⟩ := w
  refine jw_zast' (pc' := 25) rfl rfl rfl rfl rfl (g_3.nr) g_1 g_2 (fun h_4 e_5 => ?_)
  replace w := w h_4 e_5
  refine jw_iinc (pc' := 28) (y := x3 + (1 : Int32)) (ls' := [some (vR 41 r0), some (vR 46 r1), some (vR 46 r2), some (vI (x3 + (1 : Int32))), none, none]) rfl (by decide) rfl rfl rfl ?_
  refine jw_goto (pc' := 2) rfl rfl ?_
  exact hK2 _ _ _ _ _ w
def W_X8_like_2 (D : JD) (d : Nat) (Q : JO → JH → Prop) (K2 : Nat → Nat → Nat → Int32 → JH → Prop) (r0 : Nat) (r1 : Nat) (r2 : Nat) (x3 : Int32) (h : JH) : Prop :=
  r1 ≠ 0 ∧ (((jfi h 268 r1) < x3 → ∃ n, L_X8_like_33 D d Q n r0 r1 r2 (0 : Int32) h) ∧ (¬ (jfi h 268 r1) < x3 → r0 ≠ 0 ∧ ((¬ x3 = 0 → W_X8_like_24 D d Q K2 r0 r1 r2 x3 (jfr h 207 r0) x3 (0 : Int32) h) ∧ (x3 = 0 → W_X8_like_24 D d Q K2 r0 r1 r2 x3 (jfr h 207 r0) x3 (1 : Int32) h))))
theorem w_X8_like_2 {D : JD} {d : Nat} {Q : JO → JH → Prop} {K2 : Nat → Nat → Nat → Int32 → JH → Prop} {r0 : Nat} {r1 : Nat} {r2 : Nat} {x3 : Int32} {h : JH} (hK2 : ∀ (r0 : Nat) (r1 : Nat) (r2 : Nat) (x3 : Int32) (h : JH), K2 r0 r1 r2 x3 h → JW D (d + 1) mX8_like 2 [some (vR 41 r0), some (vR 46 r1), some (vR 46 r2), some (vI x3), none, none] [] h Q) (w : W_X8_like_2 D d Q K2 r0 r1 r2 x3 h) : JW D (d + 1) mX8_like 2 [some (vR 41 r0), some (vR 46 r1), some (vR 46 r2), some (vI x3), none, none] [] h Q := by
  unfold W_X8_like_2 at w
  refine jw_iload_n (pc' := 3) rfl rfl ?_
  refine jw_aload_n (pc' := 4) rfl rfl ?_
  obtain ⟨g_1, w⟩ := w
  refine jw_getI (pc' := 7) (F := 268) rfl rfl rfl rfl g_1 ?_
  refine jw_icmp_gt (tgt := 31) (pc' := 10) rfl rfl (fun c_2 => ?_) (fun c_2 => ?_)
  · replace w := w.1 c_2
    refine jw_iconst (pc' := 32) (x := (0 : Int32)) rfl rfl ?_
    refine jw_istore_n (pc' := 33) (ls' := [some (vR 41 r0), some (vR 46 r1), some (vR 46 r2), some (vI (0 : Int32)), none, none]) rfl (by decide) rfl ?_
    obtain ⟨n, w⟩ := w
    exact l_X8_like_33 n _ _ _ _ _ w
  · replace w := w.2 c_2
    refine jw_aload_n (pc' := 11) rfl rfl ?_
    obtain ⟨g_3, w⟩ := w
    refine jw_getR (pc' := 14) (F := 207) (t' := 169) rfl rfl rfl rfl rfl g_3 ?_
    refine jw_iload_n (pc' := 15) rfl rfl ?_
    refine jw_iload_n (pc' := 16) rfl rfl ?_
    refine jw_if_ne (tgt := 23) (pc' := 19) rfl rfl (fun c_4 => ?_) (fun c_4 => ?_)
    · replace w := w.1 c_4
      refine jw_iconst (pc' := 24) (x := (0 : Int32)) rfl rfl ?_
      exact w_X8_like_24 hK2 w
    · replace w := w.2 c_4
      refine jw_iconst (pc' := 20) (x := (1 : Int32)) rfl rfl ?_
      refine jw_goto (pc' := 24) rfl rfl ?_
      exact w_X8_like_24 hK2 w
def L_X8_like_2 (D : JD) (d : Nat) (Q : JO → JH → Prop) : Nat → Nat → Nat → Nat → Int32 → JH → Prop
  | 0 => fun _ _ _ _ _ => False
  | n + 1 => fun r0 r1 r2 x3 h => W_X8_like_2 D d Q (L_X8_like_2 D d Q n) r0 r1 r2 x3 h
theorem l_X8_like_2 {D : JD} {d : Nat} {Q : JO → JH → Prop} : ∀ (n : Nat) (r0 : Nat) (r1 : Nat) (r2 : Nat) (x3 : Int32) (h : JH), L_X8_like_2 D d Q n r0 r1 r2 x3 h → JW D (d + 1) mX8_like 2 [some (vR 41 r0), some (vR 46 r1), some (vR 46 r2), some (vI x3), none, none] [] h Q := by
  intro n
  induction n with
  | zero => intro _ _ _ _ _ w; exact w.elim
  | succ n ih => intro _ _ _ _ h w; exact w_X8_like_2 ih w
def W_X8_like_0 (D : JD) (d : Nat) (Q : JO → JH → Prop) (r0 : Nat) (r1 : Nat) (r2 : Nat) (h : JH) : Prop :=
  ∃ n, L_X8_like_2 D d Q n r0 r1 r2 (0 : Int32) h
theorem w_X8_like_0 {D : JD} {d : Nat} {Q : JO → JH → Prop} {r0 : Nat} {r1 : Nat} {r2 : Nat} {h : JH} (w : W_X8_like_0 D d Q r0 r1 r2 h) : JW D (d + 1) mX8_like 0 [some (vR 41 r0), some (vR 46 r1), some (vR 46 r2), none, none, none] [] h Q := by
  unfold W_X8_like_0 at w
  refine jw_iconst (pc' := 1) (x := (0 : Int32)) rfl rfl ?_
  refine jw_istore_n (pc' := 2) (ls' := [some (vR 41 r0), some (vR 46 r1), some (vR 46 r2), some (vI (0 : Int32)), none, none]) rfl (by decide) rfl ?_
  obtain ⟨n, w⟩ := w
  exact l_X8_like_2 n _ _ _ _ _ w
def T_X8_like (D : JD) (d : Nat) (Q : JO → JH → Prop) (r0 : Nat) (r1 : Nat) (r2 : Nat) (h : JH) : Prop := W_X8_like_0 D d Q r0 r1 r2 h
theorem t_X8_like {D : JD} {d : Nat} {Q : JO → JH → Prop} {r0 : Nat} {r1 : Nat} {r2 : Nat} {h : JH} (w : T_X8_like D d Q r0 r1 r2 h) : cX8_like D (d + 1) r0 r1 r2 h Q := by
  unfold T_X8_like at w
  unfold cX8_like
  exact w_X8_like_0 w
def W_X8_between_98 (D : JD) (d : Nat) (Q : JO → JH → Prop) (q0 : Nat) (h : JH) : Prop :=
  Q (.inl (some (vR 46 q0))) h
theorem w_X8_between_98 {D : JD} {d : Nat} {Q : JO → JH → Prop} {q0 : Nat} {h : JH} (w : W_X8_between_98 D d Q q0 h) : JW D (d + 1) mX8_between 98 [none, none, none, none, none, none] [vR 46 q0] h Q := by
  unfold W_X8_between_98 at w
  exact jw_areturn rfl rfl rfl rfl rfl w
def W_X8_between_79 (D : JD) (d : Nat) (Q : JO → JH → Prop) (r0 : Nat) (r1 : Nat) (r4 : Nat) (h : JH) : Prop :=
  r1 ≠ 0 ∧ ((¬ (jfi h 306 r1) = (1 : Int32) → W_X8_between_98 D d Q r4 h) ∧ ((jfi h 306 r1) = (1 : Int32) → r0 ≠ 0 ∧ (cX8_turned D d r0 r4 h (pR D h 46 (fun v_6 h_4 => W_X8_between_98 D d Q v_6 h_4) (jth Q)))))
theorem w_X8_between_79 {D : JD} {d : Nat} {Q : JO → JH → Prop} {r0 : Nat} {r1 : Nat} {r4 : Nat} {h : JH} (w : W_X8_between_79 D d Q r0 r1 r4 h) : JW D (d + 1) mX8_between 79 [some (vR 41 r0), some (vR 48 r1), none, none, some (vR 46 r4), none] [] h Q := by
  unfold W_X8_between_79 at w
  refine jw_aload_n (pc' := 80) rfl rfl ?_
  obtain ⟨g_1, w⟩ := w
  refine jw_getI (pc' := 83) (F := 306) rfl rfl rfl rfl g_1 ?_
  refine jw_iconst (pc' := 84) (x := (1 : Int32)) rfl rfl ?_
  refine jw_icmp_ne (tgt := 96) (pc' := 87) rfl rfl (fun c_2 => ?_) (fun c_2 => ?_)
  · replace w := w.1 c_2
    refine jw_aload (pc' := 98) rfl rfl ?_
    refine jw_gen (ls' := [none, none, none, none, none, none]) (st' := [vR 46 r4]) (trivial) (And.intro (Or.inl rfl) (trivial)) ?_
    exact w_X8_between_98 w
  · replace w := w.2 c_2
    refine jw_aload_n (pc' := 88) rfl rfl ?_
    refine jw_aload (pc' := 90) rfl rfl ?_
    obtain ⟨g_3, w⟩ := w
    refine jw_cR (st := []) (sa := [vR 41 r0, vR 46 r4]) okX8_turned rfl rfl rfl rfl rfl rfl (jstp_virtual (sa := [vR 46 r4]) (st := []) (k := 0) rfl rfl sX8_turned okX8_turned g_3 (one41.k g_3) rfl rfl) w (fun v_6 h_4 _ _ _ w => ?_)
    refine jw_goto (pc' := 98) rfl rfl ?_
    refine jw_gen (ls' := [none, none, none, none, none, none]) (st' := [vR 46 v_6]) (trivial) (And.intro (Or.inl rfl) (trivial)) ?_
    exact w_X8_between_98 w
def W_X8_between_77 (D : JD) (d : Nat) (Q : JO → JH → Prop) (r0 : Nat) (r1 : Nat) (q0 : Nat) (h : JH) : Prop :=
  W_X8_between_79 D d Q r0 r1 q0 h
theorem w_X8_between_77 {D : JD} {d : Nat} {Q : JO → JH → Prop} {r0 : Nat} {r1 : Nat} {q0 : Nat} {h : JH} (w : W_X8_between_77 D d Q r0 r1 q0 h) : JW D (d + 1) mX8_between 77 [some (vR 41 r0), some (vR 48 r1), none, none, none, none] [vR 46 q0] h Q := by
  unfold W_X8_between_77 at w
  refine jw_astore (pc' := 79) (ls' := [some (vR 41 r0), some (vR 48 r1), none, none, some (vR 46 q0), none]) rfl (by decide) rfl ?_
  exact w_X8_between_79 w
def W_X8_between_71 (D : JD) (d : Nat) (Q : JO → JH → Prop) (r0 : Nat) (r1 : Nat) (r5 : Nat) (h : JH) : Prop :=
  W_X8_between_77 D d Q r0 r1 r5 h
theorem w_X8_between_71 {D : JD} {d : Nat} {Q : JO → JH → Prop} {r0 : Nat} {r1 : Nat} {r5 : Nat} {h : JH} (w : W_X8_between_71 D d Q r0 r1 r5 h) : JW D (d + 1) mX8_between 71 [some (vR 41 r0), some (vR 48 r1), none, none, none, some (vR 46 r5)] [] h Q := by
  unfold W_X8_between_71 at w
  refine jw_aload (pc' := 73) rfl rfl ?_
  refine jw_goto (pc' := 77) rfl rfl ?_
  refine jw_gen (ls' := [some (vR 41 r0), some (vR 48 r1), none, none, none, none]) (st' := [vR 46 r5]) (And.intro (Or.inl rfl) (And.intro (Or.inl rfl) (trivial))) (And.intro (Or.inl rfl) (trivial)) ?_
  exact w_X8_between_77 w
def W_X8_between_0 (D : JD) (d : Nat) (Q : JO → JH → Prop) (r0 : Nat) (r1 : Nat) (h : JH) : Prop :=
  r1 ≠ 0 ∧ ((jfr h 310 r1) ≠ 0 ∧ jin (0 : Int32) (jln h (jfr h 310 r1)) ∧ (r0 ≠ 0 ∧ (cX8_eval D d r0 (jar h (jfr h 310 r1) (ixn (0 : Int32))) h (pR D h 46 (fun v_7 h_5 => (jfr h_5 310 r1) ≠ 0 ∧ jin (1 : Int32) (jln h_5 (jfr h_5 310 r1)) ∧ (cX8_eval D d r0 (jar h_5 (jfr h_5 310 r1) (ixn (1 : Int32))) h_5 (pR D h_5 46 (fun v_12 h_10 => cX8_told D d r0 (5 : Int32) v_7 v_12 h_10 (pR D h_10 46 (fun v_15 h_13 => cX8_isFalse D d v_15 h_13 (pI D h_13 (fun v_18 h_16 => (¬ v_18 = 0 → W_X8_between_79 D d Q r0 r1 v_15 h_16) ∧ (v_18 = 0 → (jfr h_16 310 r1) ≠ 0 ∧ jin (2 : Int32) (jln h_16 (jfr h_16 310 r1)) ∧ (cX8_eval D d r0 (jar h_16 (jfr h_16 310 r1) (ixn (2 : Int32))) h_16 (pR D h_16 46 (fun v_24 h_22 => cX8_told D d r0 (3 : Int32) v_7 v_24 h_22 (pR D h_22 46 (fun v_27 h_25 => cX8_isFalse D d v_27 h_25 (pI D h_25 (fun v_30 h_28 => (¬ v_30 = 0 → W_X8_between_71 D d Q r0 r1 v_27 h_28) ∧ (v_30 = 0 → v_15 ≠ 0 ∧ (((jfi h_28 266 v_15) = 0 → W_X8_between_77 D d Q r0 r1 v_15 h_28) ∧ (¬ (jfi h_28 266 v_15) = 0 → W_X8_between_71 D d Q r0 r1 v_27 h_28)))) (jth Q))) (jth Q))) (jth Q))))) (jth Q))) (jth Q))) (jth Q)))) (jth Q)))))
theorem w_X8_between_0 {D : JD} {d : Nat} {Q : JO → JH → Prop} {r0 : Nat} {r1 : Nat} {h : JH} (w : W_X8_between_0 D d Q r0 r1 h) : JW D (d + 1) mX8_between 0 [some (vR 41 r0), some (vR 48 r1), none, none, none, none] [] h Q := by
  unfold W_X8_between_0 at w
  refine jw_aload_n (pc' := 1) rfl rfl ?_
  refine jw_aload_n (pc' := 2) rfl rfl ?_
  obtain ⟨g_1, w⟩ := w
  refine jw_getR (pc' := 5) (F := 310) (t' := 215) rfl rfl rfl rfl rfl g_1 ?_
  refine jw_iconst (pc' := 6) (x := (0 : Int32)) rfl rfl ?_
  obtain ⟨g_2, w⟩ := w
  obtain ⟨g_3, w⟩ := w
  refine jw_aald (pc' := 7) (t' := 48) rfl rfl rfl rfl g_2 g_3.ix g_3.2 ?_
  obtain ⟨g_4, w⟩ := w
  refine jw_cR (st := []) (sa := [vR 41 r0, vR 48 (jar h (jfr h 310 r1) (ixn (0 : Int32)))]) okX8_eval rfl rfl rfl rfl rfl rfl (jstp_virtual (sa := [vR 48 (jar h (jfr h 310 r1) (ixn (0 : Int32)))]) (st := []) (k := 0) rfl rfl sX8_eval okX8_eval g_4 (one41.k g_4) rfl rfl) w (fun v_7 h_5 _ _ _ w => ?_)
  refine jw_astore_n (pc' := 11) (ls' := [some (vR 41 r0), some (vR 48 r1), some (vR 46 v_7), none, none, none]) rfl (by decide) rfl ?_
  refine jw_aload_n (pc' := 12) rfl rfl ?_
  refine jw_iconst (pc' := 13) (x := (5 : Int32)) rfl rfl ?_
  refine jw_aload_n (pc' := 14) rfl rfl ?_
  refine jw_aload_n (pc' := 15) rfl rfl ?_
  refine jw_aload_n (pc' := 16) rfl rfl ?_
  refine jw_getR (pc' := 19) (F := 310) (t' := 215) rfl rfl rfl rfl rfl g_1 ?_
  refine jw_iconst (pc' := 20) (x := (1 : Int32)) rfl rfl ?_
  obtain ⟨g_8, w⟩ := w
  obtain ⟨g_9, w⟩ := w
  refine jw_aald (pc' := 21) (t' := 48) rfl rfl rfl rfl g_8 g_9.ix g_9.2 ?_
  refine jw_cR (st := [vR 46 v_7, vI (5 : Int32), vR 41 r0]) (sa := [vR 41 r0, vR 48 (jar h_5 (jfr h_5 310 r1) (ixn (1 : Int32)))]) okX8_eval rfl rfl rfl rfl rfl rfl (jstp_virtual (sa := [vR 48 (jar h_5 (jfr h_5 310 r1) (ixn (1 : Int32)))]) (st := [vR 46 v_7, vI (5 : Int32), vR 41 r0]) (k := 0) rfl rfl sX8_eval okX8_eval g_4 (one41.k g_4) rfl rfl) w (fun v_12 h_10 _ _ _ w => ?_)
  refine jw_cR (st := []) (sa := [vR 41 r0, vI (5 : Int32), vR 46 v_7, vR 46 v_12]) okX8_told rfl rfl rfl rfl rfl rfl (jstp_virtual (sa := [vI (5 : Int32), vR 46 v_7, vR 46 v_12]) (st := []) (k := 0) rfl rfl sX8_told okX8_told g_4 (one41.k g_4) rfl rfl) w (fun v_15 h_13 _ _ _ w => ?_)
  refine jw_astore_n (pc' := 28) (ls' := [some (vR 41 r0), some (vR 48 r1), some (vR 46 v_7), some (vR 46 v_15), none, none]) rfl (by decide) rfl ?_
  refine jw_aload_n (pc' := 29) rfl rfl ?_
  refine jw_astore (pc' := 31) (ls' := [some (vR 41 r0), some (vR 48 r1), some (vR 46 v_7), some (vR 46 v_15), some (vR 46 v_15), none]) rfl (by decide) rfl ?_
  refine jw_aload_n (pc' := 32) rfl rfl ?_
  refine jw_cI (st := []) (sa := [vR 46 v_15]) okX8_isFalse rfl rfl rfl rfl rfl rfl (jstp_static (sa := [vR 46 v_15]) (st := []) rfl rfl sX8_isFalse okX8_isFalse rfl rfl) w (fun v_18 h_16 _ _ w => ?_)
  refine jw_if_ne (tgt := 79) (pc' := 38) rfl rfl (fun c_19 => ?_) (fun c_19 => ?_)
  · replace w := w.1 c_19
    refine jw_gen (ls' := [some (vR 41 r0), some (vR 48 r1), none, none, some (vR 46 v_15), none]) (st' := []) (And.intro (Or.inl rfl) (And.intro (Or.inl rfl) (And.intro (Or.inl rfl) (trivial)))) (trivial) ?_
    exact w_X8_between_79 w
  · replace w := w.2 c_19
    refine jw_aload_n (pc' := 39) rfl rfl ?_
    refine jw_iconst (pc' := 40) (x := (3 : Int32)) rfl rfl ?_
    refine jw_aload_n (pc' := 41) rfl rfl ?_
    refine jw_aload_n (pc' := 42) rfl rfl ?_
    refine jw_aload_n (pc' := 43) rfl rfl ?_
    refine jw_getR (pc' := 46) (F := 310) (t' := 215) rfl rfl rfl rfl rfl g_1 ?_
    refine jw_iconst (pc' := 47) (x := (2 : Int32)) rfl rfl ?_
    obtain ⟨g_20, w⟩ := w
    obtain ⟨g_21, w⟩ := w
    refine jw_aald (pc' := 48) (t' := 48) rfl rfl rfl rfl g_20 g_21.ix g_21.2 ?_
    refine jw_cR (st := [vR 46 v_7, vI (3 : Int32), vR 41 r0]) (sa := [vR 41 r0, vR 48 (jar h_16 (jfr h_16 310 r1) (ixn (2 : Int32)))]) okX8_eval rfl rfl rfl rfl rfl rfl (jstp_virtual (sa := [vR 48 (jar h_16 (jfr h_16 310 r1) (ixn (2 : Int32)))]) (st := [vR 46 v_7, vI (3 : Int32), vR 41 r0]) (k := 0) rfl rfl sX8_eval okX8_eval g_4 (one41.k g_4) rfl rfl) w (fun v_24 h_22 _ _ _ w => ?_)
    refine jw_cR (st := []) (sa := [vR 41 r0, vI (3 : Int32), vR 46 v_7, vR 46 v_24]) okX8_told rfl rfl rfl rfl rfl rfl (jstp_virtual (sa := [vI (3 : Int32), vR 46 v_7, vR 46 v_24]) (st := []) (k := 0) rfl rfl sX8_told okX8_told g_4 (one41.k g_4) rfl rfl) w (fun v_27 h_25 _ _ _ w => ?_)
    refine jw_astore (pc' := 56) (ls' := [some (vR 41 r0), some (vR 48 r1), some (vR 46 v_7), some (vR 46 v_15), some (vR 46 v_15), some (vR 46 v_27)]) rfl (by decide) rfl ?_
    refine jw_aload (pc' := 58) rfl rfl ?_
    refine jw_cI (st := []) (sa := [vR 46 v_27]) okX8_isFalse rfl rfl rfl rfl rfl rfl (jstp_static (sa := [vR 46 v_27]) (st := []) rfl rfl sX8_isFalse okX8_isFalse rfl rfl) w (fun v_30 h_28 _ _ w => ?_)
    refine jw_if_ne (tgt := 71) (pc' := 64) rfl rfl (fun c_31 => ?_) (fun c_31 => ?_)
    · replace w := w.1 c_31
      refine jw_gen (ls' := [some (vR 41 r0), some (vR 48 r1), none, none, none, some (vR 46 v_27)]) (st' := []) (And.intro (Or.inl rfl) (And.intro (Or.inl rfl) (And.intro (Or.inl rfl) (trivial)))) (trivial) ?_
      exact w_X8_between_71 w
    · replace w := w.2 c_31
      refine jw_aload_n (pc' := 65) rfl rfl ?_
      obtain ⟨g_32, w⟩ := w
      refine jw_getI (pc' := 68) (F := 266) rfl rfl rfl rfl g_32 ?_
      refine jw_if_eq (tgt := 76) (pc' := 71) rfl rfl (fun c_33 => ?_) (fun c_33 => ?_)
      · replace w := w.1 c_33
        refine jw_aload_n (pc' := 77) rfl rfl ?_
        refine jw_gen (ls' := [some (vR 41 r0), some (vR 48 r1), none, none, none, none]) (st' := [vR 46 v_15]) (And.intro (Or.inl rfl) (And.intro (Or.inl rfl) (trivial))) (And.intro (Or.inl rfl) (trivial)) ?_
        exact w_X8_between_77 w
      · replace w := w.2 c_33
        refine jw_gen (ls' := [some (vR 41 r0), some (vR 48 r1), none, none, none, some (vR 46 v_27)]) (st' := []) (And.intro (Or.inl rfl) (And.intro (Or.inl rfl) (And.intro (Or.inl rfl) (trivial)))) (trivial) ?_
        exact w_X8_between_71 w
def T_X8_between (D : JD) (d : Nat) (Q : JO → JH → Prop) (r0 : Nat) (r1 : Nat) (h : JH) : Prop := W_X8_between_0 D d Q r0 r1 h
theorem t_X8_between {D : JD} {d : Nat} {Q : JO → JH → Prop} {r0 : Nat} {r1 : Nat} {h : JH} (w : T_X8_between D d Q r0 r1 h) : cX8_between D (d + 1) r0 r1 h Q := by
  unfold T_X8_between at w
  unfold cX8_between
  exact w_X8_between_0 w
def W_X8_isFalse_23 (D : JD) (d : Nat) (Q : JO → JH → Prop) (s0 : Int32) (h : JH) : Prop :=
  jbo s0 ∧ (Q (.inl (some (vI s0))) h)
theorem w_X8_isFalse_23 {D : JD} {d : Nat} {Q : JO → JH → Prop} {s0 : Int32} {h : JH} (w : W_X8_isFalse_23 D d Q s0 h) : JW D (d + 1) mX8_isFalse 23 [none] [vI s0] h Q := by
  unfold W_X8_isFalse_23 at w
  obtain ⟨g_1, w⟩ := w
  exact jw_ireturn rfl rfl (g_1.nr) w
def W_X8_isFalse_22 (D : JD) (d : Nat) (Q : JO → JH → Prop) (h : JH) : Prop :=
  W_X8_isFalse_23 D d Q (0 : Int32) h
theorem w_X8_isFalse_22 {D : JD} {d : Nat} {Q : JO → JH → Prop} {h : JH} (w : W_X8_isFalse_22 D d Q h) : JW D (d + 1) mX8_isFalse 22 [none] [] h Q := by
  unfold W_X8_isFalse_22 at w
  refine jw_iconst (pc' := 23) (x := (0 : Int32)) rfl rfl ?_
  exact w_X8_isFalse_23 w
def W_X8_isFalse_0 (D : JD) (d : Nat) (Q : JO → JH → Prop) (r0 : Nat) (h : JH) : Prop :=
  r0 ≠ 0 ∧ ((¬ (jfi h 266 r0) = (16 : Int32) → W_X8_isFalse_22 D d Q h) ∧ ((jfi h 266 r0) = (16 : Int32) → (¬ (lg_cmp (jfl h 267 r0) (0 : Int64)) = 0 → W_X8_isFalse_22 D d Q h) ∧ ((lg_cmp (jfl h 267 r0) (0 : Int64)) = 0 → W_X8_isFalse_23 D d Q (1 : Int32) h)))
theorem w_X8_isFalse_0 {D : JD} {d : Nat} {Q : JO → JH → Prop} {r0 : Nat} {h : JH} (w : W_X8_isFalse_0 D d Q r0 h) : JW D (d + 1) mX8_isFalse 0 [some (vR 46 r0)] [] h Q := by
  unfold W_X8_isFalse_0 at w
  refine jw_aload_n (pc' := 1) rfl rfl ?_
  obtain ⟨g_1, w⟩ := w
  refine jw_getI (pc' := 4) (F := 266) rfl rfl rfl rfl g_1 ?_
  refine jw_bipush (pc' := 6) (x := (16 : Int32)) rfl rfl ?_
  refine jw_icmp_ne (tgt := 22) (pc' := 9) rfl rfl (fun c_2 => ?_) (fun c_2 => ?_)
  · replace w := w.1 c_2
    refine jw_gen (ls' := [none]) (st' := []) (trivial) (trivial) ?_
    exact w_X8_isFalse_22 w
  · replace w := w.2 c_2
    refine jw_aload_n (pc' := 10) rfl rfl ?_
    refine jw_getL (pc' := 13) (F := 267) rfl rfl rfl rfl g_1 ?_
    refine jw_lconst (pc' := 14) (x := (0 : Int64)) rfl rfl ?_
    refine jw_lcmp (pc' := 15) rfl ?_
    refine jw_if_ne (tgt := 22) (pc' := 18) rfl rfl (fun c_3 => ?_) (fun c_3 => ?_)
    · replace w := w.1 c_3
      refine jw_gen (ls' := [none]) (st' := []) (trivial) (trivial) ?_
      exact w_X8_isFalse_22 w
    · replace w := w.2 c_3
      refine jw_iconst (pc' := 19) (x := (1 : Int32)) rfl rfl ?_
      refine jw_goto (pc' := 23) rfl rfl ?_
      refine jw_gen (ls' := [none]) (st' := [vI (1 : Int32)]) (trivial) (And.intro (Or.inl rfl) (trivial)) ?_
      exact w_X8_isFalse_23 w
def T_X8_isFalse (D : JD) (d : Nat) (Q : JO → JH → Prop) (r0 : Nat) (h : JH) : Prop := W_X8_isFalse_0 D d Q r0 h
theorem t_X8_isFalse {D : JD} {d : Nat} {Q : JO → JH → Prop} {r0 : Nat} {h : JH} (w : T_X8_isFalse D d Q r0 h) : cX8_isFalse D (d + 1) r0 h Q := by
  unfold T_X8_isFalse at w
  unfold cX8_isFalse
  exact w_X8_isFalse_0 w
def W_X8_turned_29 (D : JD) (d : Nat) (Q : JO → JH → Prop) (q0 : Nat) (h : JH) : Prop :=
  Q (.inl (some (vR 46 q0))) h
theorem w_X8_turned_29 {D : JD} {d : Nat} {Q : JO → JH → Prop} {q0 : Nat} {h : JH} (w : W_X8_turned_29 D d Q q0 h) : JW D (d + 1) mX8_turned 29 [none, none] [vR 46 q0] h Q := by
  unfold W_X8_turned_29 at w
  exact jw_areturn rfl rfl rfl rfl rfl w
def W_X8_turned_26 (D : JD) (d : Nat) (Q : JO → JH → Prop) (q0 : Nat) (s1 : Int32) (h : JH) : Prop :=
  q0 ≠ 0 ∧ (cX8_truth D d q0 s1 h (pR D h 46 (fun v_4 h_2 => W_X8_turned_29 D d Q v_4 h_2) (jth Q)))
theorem w_X8_turned_26 {D : JD} {d : Nat} {Q : JO → JH → Prop} {q0 : Nat} {s1 : Int32} {h : JH} (w : W_X8_turned_26 D d Q q0 s1 h) : JW D (d + 1) mX8_turned 26 [none, none] [vI s1, vR 41 q0] h Q := by
  unfold W_X8_turned_26 at w
  obtain ⟨g_1, w⟩ := w
  refine jw_cR (st := []) (sa := [vR 41 q0, vI s1]) okX8_truth rfl rfl rfl rfl rfl rfl (jstp_virtual (sa := [vI s1]) (st := []) (k := 0) rfl rfl sX8_truth okX8_truth g_1 (one41.k g_1) rfl rfl) w (fun v_4 h_2 _ _ _ w => ?_)
  exact w_X8_turned_29 w
def W_X8_turned_0 (D : JD) (d : Nat) (Q : JO → JH → Prop) (r0 : Nat) (r1 : Nat) (h : JH) : Prop :=
  r1 ≠ 0 ∧ ((¬ (jfi h 266 r1) = 0 → (¬ (lg_cmp (jfl h 267 r1) (0 : Int64)) = 0 → W_X8_turned_26 D d Q r0 (0 : Int32) h) ∧ ((lg_cmp (jfl h 267 r1) (0 : Int64)) = 0 → W_X8_turned_26 D d Q r0 (1 : Int32) h)) ∧ ((jfi h 266 r1) = 0 → W_X8_turned_29 D d Q r1 h))
theorem w_X8_turned_0 {D : JD} {d : Nat} {Q : JO → JH → Prop} {r0 : Nat} {r1 : Nat} {h : JH} (w : W_X8_turned_0 D d Q r0 r1 h) : JW D (d + 1) mX8_turned 0 [some (vR 41 r0), some (vR 46 r1)] [] h Q := by
  unfold W_X8_turned_0 at w
  refine jw_aload_n (pc' := 1) rfl rfl ?_
  obtain ⟨g_1, w⟩ := w
  refine jw_getI (pc' := 4) (F := 266) rfl rfl rfl rfl g_1 ?_
  refine jw_if_ne (tgt := 11) (pc' := 7) rfl rfl (fun c_2 => ?_) (fun c_2 => ?_)
  · replace w := w.1 c_2
    refine jw_aload_n (pc' := 12) rfl rfl ?_
    refine jw_aload_n (pc' := 13) rfl rfl ?_
    refine jw_getL (pc' := 16) (F := 267) rfl rfl rfl rfl g_1 ?_
    refine jw_lconst (pc' := 17) (x := (0 : Int64)) rfl rfl ?_
    refine jw_lcmp (pc' := 18) rfl ?_
    refine jw_if_ne (tgt := 25) (pc' := 21) rfl rfl (fun c_3 => ?_) (fun c_3 => ?_)
    · replace w := w.1 c_3
      refine jw_iconst (pc' := 26) (x := (0 : Int32)) rfl rfl ?_
      refine jw_gen (ls' := [none, none]) (st' := [vI (0 : Int32), vR 41 r0]) (trivial) (And.intro (Or.inl rfl) (And.intro (Or.inl rfl) (trivial))) ?_
      exact w_X8_turned_26 w
    · replace w := w.2 c_3
      refine jw_iconst (pc' := 22) (x := (1 : Int32)) rfl rfl ?_
      refine jw_goto (pc' := 26) rfl rfl ?_
      refine jw_gen (ls' := [none, none]) (st' := [vI (1 : Int32), vR 41 r0]) (trivial) (And.intro (Or.inl rfl) (And.intro (Or.inl rfl) (trivial))) ?_
      exact w_X8_turned_26 w
  · replace w := w.2 c_2
    refine jw_aload_n (pc' := 8) rfl rfl ?_
    refine jw_goto (pc' := 29) rfl rfl ?_
    refine jw_gen (ls' := [none, none]) (st' := [vR 46 r1]) (trivial) (And.intro (Or.inl rfl) (trivial)) ?_
    exact w_X8_turned_29 w
def T_X8_turned (D : JD) (d : Nat) (Q : JO → JH → Prop) (r0 : Nat) (r1 : Nat) (h : JH) : Prop := W_X8_turned_0 D d Q r0 r1 h
theorem t_X8_turned {D : JD} {d : Nat} {Q : JO → JH → Prop} {r0 : Nat} {r1 : Nat} {h : JH} (w : T_X8_turned D d Q r0 r1 h) : cX8_turned D (d + 1) r0 r1 h Q := by
  unfold T_X8_turned at w
  unfold cX8_turned
  exact w_X8_turned_0 w
def W_X8_joined_100 (D : JD) (d : Nat) (Q : JO → JH → Prop) (q0 : Nat) (h : JH) : Prop :=
  Q (.inl (some (vR 46 q0))) h
theorem w_X8_joined_100 {D : JD} {d : Nat} {Q : JO → JH → Prop} {q0 : Nat} {h : JH} (w : W_X8_joined_100 D d Q q0 h) : JW D (d + 1) mX8_joined 100 [none, none, none, none, none] [vR 46 q0] h Q := by
  unfold W_X8_joined_100 at w
  exact jw_areturn rfl rfl rfl rfl rfl w
def W_X8_joined_87 (D : JD) (d : Nat) (Q : JO → JH → Prop) (r3 : Nat) (r4 : Nat) (h : JH) : Prop :=
  r3 ≠ 0 ∧ ((¬ (jfi h 266 r3) = 0 → W_X8_joined_100 D d Q r4 h) ∧ ((jfi h 266 r3) = 0 → W_X8_joined_100 D d Q r3 h))
theorem w_X8_joined_87 {D : JD} {d : Nat} {Q : JO → JH → Prop} {r3 : Nat} {r4 : Nat} {h : JH} (w : W_X8_joined_87 D d Q r3 r4 h) : JW D (d + 1) mX8_joined 87 [none, none, none, some (vR 46 r3), some (vR 46 r4)] [] h Q := by
  unfold W_X8_joined_87 at w
  refine jw_aload_n (pc' := 88) rfl rfl ?_
  obtain ⟨g_1, w⟩ := w
  refine jw_getI (pc' := 91) (F := 266) rfl rfl rfl rfl g_1 ?_
  refine jw_if_ne (tgt := 98) (pc' := 94) rfl rfl (fun c_2 => ?_) (fun c_2 => ?_)
  · replace w := w.1 c_2
    refine jw_aload (pc' := 100) rfl rfl ?_
    refine jw_gen (ls' := [none, none, none, none, none]) (st' := [vR 46 r4]) (trivial) (And.intro (Or.inl rfl) (trivial)) ?_
    exact w_X8_joined_100 w
  · replace w := w.2 c_2
    refine jw_aload_n (pc' := 95) rfl rfl ?_
    refine jw_goto (pc' := 100) rfl rfl ?_
    refine jw_gen (ls' := [none, none, none, none, none]) (st' := [vR 46 r3]) (trivial) (And.intro (Or.inl rfl) (trivial)) ?_
    exact w_X8_joined_100 w
def W_X8_joined_84 (D : JD) (d : Nat) (Q : JO → JH → Prop) (r4 : Nat) (h : JH) : Prop :=
  Q (.inl (some (vR 46 r4))) h
theorem w_X8_joined_84 {D : JD} {d : Nat} {Q : JO → JH → Prop} {r4 : Nat} {h : JH} (w : W_X8_joined_84 D d Q r4 h) : JW D (d + 1) mX8_joined 84 [none, none, none, none, some (vR 46 r4)] [] h Q := by
  unfold W_X8_joined_84 at w
  refine jw_aload (pc' := 86) rfl rfl ?_
  exact jw_areturn rfl rfl rfl rfl rfl w
def W_X8_joined_49 (D : JD) (d : Nat) (Q : JO → JH → Prop) (r0 : Nat) (r1 : Nat) (x2 : Int32) (r3 : Nat) (h : JH) : Prop :=
  r1 ≠ 0 ∧ ((jfr h 310 r1) ≠ 0 ∧ jin (1 : Int32) (jln h (jfr h 310 r1)) ∧ (r0 ≠ 0 ∧ (cX8_eval D d r0 (jar h (jfr h 310 r1) (ixn (1 : Int32))) h (pR D h 46 (fun v_7 h_5 => (x2 = 0 → cX8_isTrue D d v_7 h_5 (pI D h_5 (fun v_11 h_9 => (v_11 = 0 → W_X8_joined_87 D d Q r3 v_7 h_9) ∧ (¬ v_11 = 0 → W_X8_joined_84 D d Q v_7 h_9)) (jth Q))) ∧ (¬ x2 = 0 → cX8_isFalse D d v_7 h_5 (pI D h_5 (fun v_15 h_13 => (v_15 = 0 → W_X8_joined_87 D d Q r3 v_7 h_13) ∧ (¬ v_15 = 0 → W_X8_joined_84 D d Q v_7 h_13)) (jth Q)))) (jth Q)))))
theorem w_X8_joined_49 {D : JD} {d : Nat} {Q : JO → JH → Prop} {r0 : Nat} {r1 : Nat} {x2 : Int32} {r3 : Nat} {h : JH} (w : W_X8_joined_49 D d Q r0 r1 x2 r3 h) : JW D (d + 1) mX8_joined 49 [some (vR 41 r0), some (vR 48 r1), some (vI x2), some (vR 46 r3), none] [] h Q := by
  unfold W_X8_joined_49 at w
  refine jw_aload_n (pc' := 50) rfl rfl ?_
  refine jw_aload_n (pc' := 51) rfl rfl ?_
  obtain ⟨g_1, w⟩ := w
  refine jw_getR (pc' := 54) (F := 310) (t' := 215) rfl rfl rfl rfl rfl g_1 ?_
  refine jw_iconst (pc' := 55) (x := (1 : Int32)) rfl rfl ?_
  obtain ⟨g_2, w⟩ := w
  obtain ⟨g_3, w⟩ := w
  refine jw_aald (pc' := 56) (t' := 48) rfl rfl rfl rfl g_2 g_3.ix g_3.2 ?_
  obtain ⟨g_4, w⟩ := w
  refine jw_cR (st := []) (sa := [vR 41 r0, vR 48 (jar h (jfr h 310 r1) (ixn (1 : Int32)))]) okX8_eval rfl rfl rfl rfl rfl rfl (jstp_virtual (sa := [vR 48 (jar h (jfr h 310 r1) (ixn (1 : Int32)))]) (st := []) (k := 0) rfl rfl sX8_eval okX8_eval g_4 (one41.k g_4) rfl rfl) w (fun v_7 h_5 _ _ _ w => ?_)
  refine jw_astore (pc' := 61) (ls' := [some (vR 41 r0), some (vR 48 r1), some (vI x2), some (vR 46 r3), some (vR 46 v_7)]) rfl (by decide) rfl ?_
  refine jw_iload_n (pc' := 62) rfl rfl ?_
  refine jw_if_eq (tgt := 76) (pc' := 65) rfl rfl (fun c_8 => ?_) (fun c_8 => ?_)
  · replace w := w.1 c_8
    refine jw_aload (pc' := 78) rfl rfl ?_
    refine jw_cI (st := []) (sa := [vR 46 v_7]) okX8_isTrue rfl rfl rfl rfl rfl rfl (jstp_static (sa := [vR 46 v_7]) (st := []) rfl rfl sX8_isTrue okX8_isTrue rfl rfl) w (fun v_11 h_9 _ _ w => ?_)
    refine jw_if_eq (tgt := 87) (pc' := 84) rfl rfl (fun c_12 => ?_) (fun c_12 => ?_)
    · replace w := w.1 c_12
      refine jw_gen (ls' := [none, none, none, some (vR 46 r3), some (vR 46 v_7)]) (st' := []) (And.intro (Or.inl rfl) (And.intro (Or.inl rfl) (trivial))) (trivial) ?_
      exact w_X8_joined_87 w
    · replace w := w.2 c_12
      refine jw_gen (ls' := [none, none, none, none, some (vR 46 v_7)]) (st' := []) (And.intro (Or.inl rfl) (trivial)) (trivial) ?_
      exact w_X8_joined_84 w
  · replace w := w.2 c_8
    refine jw_aload (pc' := 67) rfl rfl ?_
    refine jw_cI (st := []) (sa := [vR 46 v_7]) okX8_isFalse rfl rfl rfl rfl rfl rfl (jstp_static (sa := [vR 46 v_7]) (st := []) rfl rfl sX8_isFalse okX8_isFalse rfl rfl) w (fun v_15 h_13 _ _ w => ?_)
    refine jw_if_eq (tgt := 87) (pc' := 73) rfl rfl (fun c_16 => ?_) (fun c_16 => ?_)
    · replace w := w.1 c_16
      refine jw_gen (ls' := [none, none, none, some (vR 46 r3), some (vR 46 v_7)]) (st' := []) (And.intro (Or.inl rfl) (And.intro (Or.inl rfl) (trivial))) (trivial) ?_
      exact w_X8_joined_87 w
    · replace w := w.2 c_16
      refine jw_goto (pc' := 84) rfl rfl ?_
      refine jw_gen (ls' := [none, none, none, none, some (vR 46 v_7)]) (st' := []) (And.intro (Or.inl rfl) (trivial)) (trivial) ?_
      exact w_X8_joined_84 w
def W_X8_joined_47 (D : JD) (d : Nat) (Q : JO → JH → Prop) (r3 : Nat) (h : JH) : Prop :=
  Q (.inl (some (vR 46 r3))) h
theorem w_X8_joined_47 {D : JD} {d : Nat} {Q : JO → JH → Prop} {r3 : Nat} {h : JH} (w : W_X8_joined_47 D d Q r3 h) : JW D (d + 1) mX8_joined 47 [none, none, none, some (vR 46 r3), none] [] h Q := by
  unfold W_X8_joined_47 at w
  refine jw_aload_n (pc' := 48) rfl rfl ?_
  exact jw_areturn rfl rfl rfl rfl rfl w
def W_X8_joined_14 (D : JD) (d : Nat) (Q : JO → JH → Prop) (r0 : Nat) (r1 : Nat) (s0 : Int32) (h : JH) : Prop :=
  r1 ≠ 0 ∧ ((jfr h 310 r1) ≠ 0 ∧ jin (0 : Int32) (jln h (jfr h 310 r1)) ∧ (r0 ≠ 0 ∧ (cX8_eval D d r0 (jar h (jfr h 310 r1) (ixn (0 : Int32))) h (pR D h 46 (fun v_7 h_5 => (s0 = 0 → cX8_isTrue D d v_7 h_5 (pI D h_5 (fun v_11 h_9 => (v_11 = 0 → W_X8_joined_49 D d Q r0 r1 s0 v_7 h_9) ∧ (¬ v_11 = 0 → W_X8_joined_47 D d Q v_7 h_9)) (jth Q))) ∧ (¬ s0 = 0 → cX8_isFalse D d v_7 h_5 (pI D h_5 (fun v_15 h_13 => (v_15 = 0 → W_X8_joined_49 D d Q r0 r1 s0 v_7 h_13) ∧ (¬ v_15 = 0 → W_X8_joined_47 D d Q v_7 h_13)) (jth Q)))) (jth Q)))))
theorem w_X8_joined_14 {D : JD} {d : Nat} {Q : JO → JH → Prop} {r0 : Nat} {r1 : Nat} {s0 : Int32} {h : JH} (w : W_X8_joined_14 D d Q r0 r1 s0 h) : JW D (d + 1) mX8_joined 14 [some (vR 41 r0), some (vR 48 r1), none, none, none] [vI s0] h Q := by
  unfold W_X8_joined_14 at w
  refine jw_istore_n (pc' := 15) (ls' := [some (vR 41 r0), some (vR 48 r1), some (vI s0), none, none]) rfl (by decide) rfl ?_
  refine jw_aload_n (pc' := 16) rfl rfl ?_
  refine jw_aload_n (pc' := 17) rfl rfl ?_
  obtain ⟨g_1, w⟩ := w
  refine jw_getR (pc' := 20) (F := 310) (t' := 215) rfl rfl rfl rfl rfl g_1 ?_
  refine jw_iconst (pc' := 21) (x := (0 : Int32)) rfl rfl ?_
  obtain ⟨g_2, w⟩ := w
  obtain ⟨g_3, w⟩ := w
  refine jw_aald (pc' := 22) (t' := 48) rfl rfl rfl rfl g_2 g_3.ix g_3.2 ?_
  obtain ⟨g_4, w⟩ := w
  refine jw_cR (st := []) (sa := [vR 41 r0, vR 48 (jar h (jfr h 310 r1) (ixn (0 : Int32)))]) okX8_eval rfl rfl rfl rfl rfl rfl (jstp_virtual (sa := [vR 48 (jar h (jfr h 310 r1) (ixn (0 : Int32)))]) (st := []) (k := 0) rfl rfl sX8_eval okX8_eval g_4 (one41.k g_4) rfl rfl) w (fun v_7 h_5 _ _ _ w => ?_)
  refine jw_astore_n (pc' := 26) (ls' := [some (vR 41 r0), some (vR 48 r1), some (vI s0), some (vR 46 v_7), none]) rfl (by decide) rfl ?_
  refine jw_iload_n (pc' := 27) rfl rfl ?_
  refine jw_if_eq (tgt := 40) (pc' := 30) rfl rfl (fun c_8 => ?_) (fun c_8 => ?_)
  · replace w := w.1 c_8
    refine jw_aload_n (pc' := 41) rfl rfl ?_
    refine jw_cI (st := []) (sa := [vR 46 v_7]) okX8_isTrue rfl rfl rfl rfl rfl rfl (jstp_static (sa := [vR 46 v_7]) (st := []) rfl rfl sX8_isTrue okX8_isTrue rfl rfl) w (fun v_11 h_9 _ _ w => ?_)
    refine jw_if_eq (tgt := 49) (pc' := 47) rfl rfl (fun c_12 => ?_) (fun c_12 => ?_)
    · replace w := w.1 c_12
      exact w_X8_joined_49 w
    · replace w := w.2 c_12
      refine jw_gen (ls' := [none, none, none, some (vR 46 v_7), none]) (st' := []) (And.intro (Or.inl rfl) (trivial)) (trivial) ?_
      exact w_X8_joined_47 w
  · replace w := w.2 c_8
    refine jw_aload_n (pc' := 31) rfl rfl ?_
    refine jw_cI (st := []) (sa := [vR 46 v_7]) okX8_isFalse rfl rfl rfl rfl rfl rfl (jstp_static (sa := [vR 46 v_7]) (st := []) rfl rfl sX8_isFalse okX8_isFalse rfl rfl) w (fun v_15 h_13 _ _ w => ?_)
    refine jw_if_eq (tgt := 49) (pc' := 37) rfl rfl (fun c_16 => ?_) (fun c_16 => ?_)
    · replace w := w.1 c_16
      exact w_X8_joined_49 w
    · replace w := w.2 c_16
      refine jw_goto (pc' := 47) rfl rfl ?_
      refine jw_gen (ls' := [none, none, none, some (vR 46 v_7), none]) (st' := []) (And.intro (Or.inl rfl) (trivial)) (trivial) ?_
      exact w_X8_joined_47 w
def W_X8_joined_0 (D : JD) (d : Nat) (Q : JO → JH → Prop) (r0 : Nat) (r1 : Nat) (h : JH) : Prop :=
  r1 ≠ 0 ∧ ((¬ (jfi h 305 r1) = (10 : Int32) → W_X8_joined_14 D d Q r0 r1 (0 : Int32) h) ∧ ((jfi h 305 r1) = (10 : Int32) → W_X8_joined_14 D d Q r0 r1 (1 : Int32) h))
theorem w_X8_joined_0 {D : JD} {d : Nat} {Q : JO → JH → Prop} {r0 : Nat} {r1 : Nat} {h : JH} (w : W_X8_joined_0 D d Q r0 r1 h) : JW D (d + 1) mX8_joined 0 [some (vR 41 r0), some (vR 48 r1), none, none, none] [] h Q := by
  unfold W_X8_joined_0 at w
  refine jw_aload_n (pc' := 1) rfl rfl ?_
  obtain ⟨g_1, w⟩ := w
  refine jw_getI (pc' := 4) (F := 305) rfl rfl rfl rfl g_1 ?_
  refine jw_bipush (pc' := 6) (x := (10 : Int32)) rfl rfl ?_
  refine jw_icmp_ne (tgt := 13) (pc' := 9) rfl rfl (fun c_2 => ?_) (fun c_2 => ?_)
  · replace w := w.1 c_2
    refine jw_iconst (pc' := 14) (x := (0 : Int32)) rfl rfl ?_
    exact w_X8_joined_14 w
  · replace w := w.2 c_2
    refine jw_iconst (pc' := 10) (x := (1 : Int32)) rfl rfl ?_
    refine jw_goto (pc' := 14) rfl rfl ?_
    exact w_X8_joined_14 w
def T_X8_joined (D : JD) (d : Nat) (Q : JO → JH → Prop) (r0 : Nat) (r1 : Nat) (h : JH) : Prop := W_X8_joined_0 D d Q r0 r1 h
theorem t_X8_joined {D : JD} {d : Nat} {Q : JO → JH → Prop} {r0 : Nat} {r1 : Nat} {h : JH} (w : T_X8_joined D d Q r0 r1 h) : cX8_joined D (d + 1) r0 r1 h Q := by
  unfold T_X8_joined at w
  unfold cX8_joined
  exact w_X8_joined_0 w
def W_X8_worked_14 (D : JD) (d : Nat) (Q : JO → JH → Prop) (r0 : Nat) (h : JH) : Prop :=
  r0 ≠ 0 ∧ (cX8_value D d r0 (0 : Int32) (0 : Int64) h (pR D h 46 (fun v_4 h_2 => Q (.inl (some (vR 46 v_4))) h_2) (jth Q)))
theorem w_X8_worked_14 {D : JD} {d : Nat} {Q : JO → JH → Prop} {r0 : Nat} {h : JH} (w : W_X8_worked_14 D d Q r0 h) : JW D (d + 1) mX8_worked 14 [some (vR 41 r0), none, none, none, none, none] [] h Q := by
  unfold W_X8_worked_14 at w
  refine jw_aload_n (pc' := 15) rfl rfl ?_
  refine jw_iconst (pc' := 16) (x := (0 : Int32)) rfl rfl ?_
  refine jw_lconst (pc' := 17) (x := (0 : Int64)) rfl rfl ?_
  obtain ⟨g_1, w⟩ := w
  refine jw_cR (st := []) (sa := [vR 41 r0, vI (0 : Int32), vL (0 : Int64)]) okX8_value rfl rfl rfl rfl rfl rfl (jstp_virtual (sa := [vI (0 : Int32), vL (0 : Int64)]) (st := []) (k := 0) rfl rfl sX8_value okX8_value g_1 (one41.k g_1) rfl rfl) w (fun v_4 h_2 _ _ _ w => ?_)
  exact jw_areturn rfl rfl rfl rfl rfl w
def W_X8_worked_121 (D : JD) (d : Nat) (Q : JO → JH → Prop) (r0 : Nat) (r2 : Nat) (r3 : Nat) (q0 : Nat) (s1 : Int32) (h : JH) : Prop :=
  q0 ≠ 0 ∧ (cX8_must D d q0 s1 (jcs D 324) h (pV D h (fun h_2 => r2 ≠ 0 ∧ (r3 ≠ 0 ∧ (r0 ≠ 0 ∧ (cX8_number D d r0 ((jfl h_2 267 r2) * (jfl h_2 267 r3)) h_2 (pR D h_2 46 (fun v_10 h_8 => Q (.inl (some (vR 46 v_10))) h_8) (jth Q)))))) (jth Q)))
theorem w_X8_worked_121 {D : JD} {d : Nat} {Q : JO → JH → Prop} {r0 : Nat} {r2 : Nat} {r3 : Nat} {q0 : Nat} {s1 : Int32} {h : JH} (w : W_X8_worked_121 D d Q r0 r2 r3 q0 s1 h) : JW D (d + 1) mX8_worked 121 [some (vR 41 r0), none, some (vR 46 r2), some (vR 46 r3), none, none] [vI s1, vR 41 q0] h Q := by
  unfold W_X8_worked_121 at w
  refine jw_ldcS (pc' := 123) rfl rfl rfl rfl ?_
  obtain ⟨g_1, w⟩ := w
  refine jw_cV (st := []) (sa := [vR 41 q0, vI s1, vR 51 (jcs D 324)]) okX8_must rfl rfl rfl rfl rfl rfl (jstp_virtual (sa := [vI s1, vR 51 (jcs D 324)]) (st := []) (k := 0) rfl rfl sX8_must okX8_must g_1 (one41.k g_1) rfl rfl) w (fun h_2 _ _ w => ?_)
  refine jw_aload_n (pc' := 127) rfl rfl ?_
  refine jw_aload_n (pc' := 128) rfl rfl ?_
  obtain ⟨g_5, w⟩ := w
  refine jw_getL (pc' := 131) (F := 267) rfl rfl rfl rfl g_5 ?_
  refine jw_aload_n (pc' := 132) rfl rfl ?_
  obtain ⟨g_6, w⟩ := w
  refine jw_getL (pc' := 135) (F := 267) rfl rfl rfl rfl g_6 ?_
  refine jw_lmul (pc' := 136) rfl ?_
  obtain ⟨g_7, w⟩ := w
  refine jw_cR (st := []) (sa := [vR 41 r0, vL ((jfl h_2 267 r2) * (jfl h_2 267 r3))]) okX8_number rfl rfl rfl rfl rfl rfl (jstp_virtual (sa := [vL ((jfl h_2 267 r2) * (jfl h_2 267 r3))]) (st := []) (k := 0) rfl rfl sX8_number okX8_number g_7 (one41.k g_7) rfl rfl) w (fun v_10 h_8 _ _ _ w => ?_)
  exact jw_areturn rfl rfl rfl rfl rfl w
def W_X8_worked_116 (D : JD) (d : Nat) (Q : JO → JH → Prop) (r0 : Nat) (r2 : Nat) (r3 : Nat) (q0 : Nat) (h : JH) : Prop :=
  W_X8_worked_121 D d Q r0 r2 r3 q0 (1 : Int32) h
theorem w_X8_worked_116 {D : JD} {d : Nat} {Q : JO → JH → Prop} {r0 : Nat} {r2 : Nat} {r3 : Nat} {q0 : Nat} {h : JH} (w : W_X8_worked_116 D d Q r0 r2 r3 q0 h) : JW D (d + 1) mX8_worked 116 [some (vR 41 r0), none, some (vR 46 r2), some (vR 46 r3), none, none] [vR 41 q0] h Q := by
  unfold W_X8_worked_116 at w
  refine jw_iconst (pc' := 117) (x := (1 : Int32)) rfl rfl ?_
  refine jw_goto (pc' := 121) rfl rfl ?_
  exact w_X8_worked_121 w
def W_X8_worked_188 (D : JD) (d : Nat) (Q : JO → JH → Prop) (q0 : Nat) (t1 : Int64) (h : JH) : Prop :=
  q0 ≠ 0 ∧ (cX8_number D d q0 t1 h (pR D h 46 (fun v_4 h_2 => Q (.inl (some (vR 46 v_4))) h_2) (jth Q)))
theorem w_X8_worked_188 {D : JD} {d : Nat} {Q : JO → JH → Prop} {q0 : Nat} {t1 : Int64} {h : JH} (w : W_X8_worked_188 D d Q q0 t1 h) : JW D (d + 1) mX8_worked 188 [none, none, none, none, none, none] [vL t1, vR 41 q0] h Q := by
  unfold W_X8_worked_188 at w
  obtain ⟨g_1, w⟩ := w
  refine jw_cR (st := []) (sa := [vR 41 q0, vL t1]) okX8_number rfl rfl rfl rfl rfl rfl (jstp_virtual (sa := [vL t1]) (st := []) (k := 0) rfl rfl sX8_number okX8_number g_1 (one41.k g_1) rfl rfl) w (fun v_4 h_2 _ _ _ w => ?_)
  exact jw_areturn rfl rfl rfl rfl rfl w
def W_X8_worked_155 (D : JD) (d : Nat) (Q : JO → JH → Prop) (r0 : Nat) (x1 : Int32) (r2 : Nat) (r3 : Nat) (q0 : Nat) (s1 : Int32) (h : JH) : Prop :=
  q0 ≠ 0 ∧ (cX8_must D d q0 s1 (jcs D 327) h (pV D h (fun h_2 => (¬ x1 = (3 : Int32) → r2 ≠ 0 ∧ (r3 ≠ 0 ∧ (¬ (jfl h_2 267 r3) = 0 ∧ (W_X8_worked_188 D d Q r0 ((jfl h_2 267 r2) - (jfl h_2 267 r2) / (jfl h_2 267 r3) * (jfl h_2 267 r3)) h_2)))) ∧ (x1 = (3 : Int32) → r2 ≠ 0 ∧ (r3 ≠ 0 ∧ (¬ (jfl h_2 267 r3) = 0 ∧ (W_X8_worked_188 D d Q r0 ((jfl h_2 267 r2) / (jfl h_2 267 r3)) h_2))))) (jth Q)))
theorem w_X8_worked_155 {D : JD} {d : Nat} {Q : JO → JH → Prop} {r0 : Nat} {x1 : Int32} {r2 : Nat} {r3 : Nat} {q0 : Nat} {s1 : Int32} {h : JH} (w : W_X8_worked_155 D d Q r0 x1 r2 r3 q0 s1 h) : JW D (d + 1) mX8_worked 155 [some (vR 41 r0), some (vI x1), some (vR 46 r2), some (vR 46 r3), none, none] [vI s1, vR 41 q0] h Q := by
  unfold W_X8_worked_155 at w
  refine jw_ldcwS (pc' := 158) rfl rfl rfl rfl ?_
  obtain ⟨g_1, w⟩ := w
  refine jw_cV (st := []) (sa := [vR 41 q0, vI s1, vR 51 (jcs D 327)]) okX8_must rfl rfl rfl rfl rfl rfl (jstp_virtual (sa := [vI s1, vR 51 (jcs D 327)]) (st := []) (k := 0) rfl rfl sX8_must okX8_must g_1 (one41.k g_1) rfl rfl) w (fun h_2 _ _ w => ?_)
  refine jw_aload_n (pc' := 162) rfl rfl ?_
  refine jw_iload_n (pc' := 163) rfl rfl ?_
  refine jw_iconst (pc' := 164) (x := (3 : Int32)) rfl rfl ?_
  refine jw_icmp_ne (tgt := 179) (pc' := 167) rfl rfl (fun c_5 => ?_) (fun c_5 => ?_)
  · replace w := w.1 c_5
    refine jw_aload_n (pc' := 180) rfl rfl ?_
    obtain ⟨g_6, w⟩ := w
    refine jw_getL (pc' := 183) (F := 267) rfl rfl rfl rfl g_6 ?_
    refine jw_aload_n (pc' := 184) rfl rfl ?_
    obtain ⟨g_7, w⟩ := w
    refine jw_getL (pc' := 187) (F := 267) rfl rfl rfl rfl g_7 ?_
    obtain ⟨g_8, w⟩ := w
    refine jw_lrem (pc' := 188) rfl g_8 ?_
    refine jw_gen (ls' := [none, none, none, none, none, none]) (st' := [vL ((jfl h_2 267 r2) - (jfl h_2 267 r2) / (jfl h_2 267 r3) * (jfl h_2 267 r3)), vR 41 r0]) (trivial) (And.intro (Or.inl rfl) (And.intro (Or.inl rfl) (trivial))) ?_
    exact w_X8_worked_188 w
  · replace w := w.2 c_5
    refine jw_aload_n (pc' := 168) rfl rfl ?_
    obtain ⟨g_9, w⟩ := w
    refine jw_getL (pc' := 171) (F := 267) rfl rfl rfl rfl g_9 ?_
    refine jw_aload_n (pc' := 172) rfl rfl ?_
    obtain ⟨g_10, w⟩ := w
    refine jw_getL (pc' := 175) (F := 267) rfl rfl rfl rfl g_10 ?_
    obtain ⟨g_11, w⟩ := w
    refine jw_ldiv (pc' := 176) rfl g_11 ?_
    refine jw_goto (pc' := 188) rfl rfl ?_
    refine jw_gen (ls' := [none, none, none, none, none, none]) (st' := [vL ((jfl h_2 267 r2) / (jfl h_2 267 r3)), vR 41 r0]) (trivial) (And.intro (Or.inl rfl) (And.intro (Or.inl rfl) (trivial))) ?_
    exact w_X8_worked_188 w
def W_X8_worked_235 (D : JD) (d : Nat) (Q : JO → JH → Prop) (K235 : Nat → Nat → Nat → Int32 → JH → Prop) (r0 : Nat) (r3 : Nat) (r4 : Nat) (x5 : Int32) (h : JH) : Prop :=
  r3 ≠ 0 ∧ (((jfi h 268 r3) ≤ x5 → Q (.inl (some (vR 46 r4))) h) ∧ (¬ (jfi h 268 r3) ≤ x5 → (jfr h 269 r3) ≠ 0 ∧ jin x5 (jln h (jfr h 269 r3)) ∧ (r0 ≠ 0 ∧ (cX8_put_2 D d r0 r4 (jai h (jfr h 269 r3) (ixn x5)) h (pV D h (fun h_6 => K235 r0 r3 r4 (x5 + (1 : Int32)) h_6) (jth Q))))))
theorem w_X8_worked_235 {D : JD} {d : Nat} {Q : JO → JH → Prop} {K235 : Nat → Nat → Nat → Int32 → JH → Prop} {r0 : Nat} {r3 : Nat} {r4 : Nat} {x5 : Int32} {h : JH} (hK235 : ∀ (r0 : Nat) (r3 : Nat) (r4 : Nat) (x5 : Int32) (h : JH), K235 r0 r3 r4 x5 h → JW D (d + 1) mX8_worked 235 [some (vR 41 r0), none, none, some (vR 46 r3), some (vR 46 r4), some (vI x5)] [] h Q) (w : W_X8_worked_235 D d Q K235 r0 r3 r4 x5 h) : JW D (d + 1) mX8_worked 235 [some (vR 41 r0), none, none, some (vR 46 r3), some (vR 46 r4), some (vI x5)] [] h Q := by
  unfold W_X8_worked_235 at w
  refine jw_iload (pc' := 237) rfl rfl ?_
  refine jw_aload_n (pc' := 238) rfl rfl ?_
  obtain ⟨g_1, w⟩ := w
  refine jw_getI (pc' := 241) (F := 268) rfl rfl rfl rfl g_1 ?_
  refine jw_icmp_ge (tgt := 263) (pc' := 244) rfl rfl (fun c_2 => ?_) (fun c_2 => ?_)
  · replace w := w.1 c_2
    refine jw_aload (pc' := 265) rfl rfl ?_
    exact jw_areturn rfl rfl rfl rfl rfl w
  · replace w := w.2 c_2
    refine jw_aload_n (pc' := 245) rfl rfl ?_
    refine jw_aload (pc' := 247) rfl rfl ?_
    refine jw_aload_n (pc' := 248) rfl rfl ?_
    refine jw_getR (pc' := 251) (F := 269) (t' := 197) rfl rfl rfl rfl rfl g_1 ?_
    refine jw_iload (pc' := 253) rfl rfl ?_
    obtain ⟨g_3, w⟩ := w
    obtain ⟨g_4, w⟩ := w
    refine jw_bald (pc' := 254) rfl rfl rfl rfl g_3 g_4.ix g_4.2 ?_
    obtain ⟨g_5, w⟩ := w
    refine jw_cV (st := []) (sa := [vR 41 r0, vR 46 r4, vI (jai h (jfr h 269 r3) (ixn x5))]) okX8_put_2 rfl rfl rfl rfl rfl rfl (jstp_virtual (sa := [vR 46 r4, vI (jai h (jfr h 269 r3) (ixn x5))]) (st := []) (k := 0) rfl rfl sX8_put_2 okX8_put_2 g_5 (one41.k g_5) rfl rfl) w (fun h_6 _ _ w => ?_)
    refine jw_iinc (pc' := 260) (y := x5 + (1 : Int32)) (ls' := [some (vR 41 r0), none, none, some (vR 46 r3), some (vR 46 r4), some (vI (x5 + (1 : Int32)))]) rfl (by decide) rfl rfl rfl ?_
    refine jw_goto (pc' := 235) rfl rfl ?_
    exact hK235 _ _ _ _ _ w
def L_X8_worked_235 (D : JD) (d : Nat) (Q : JO → JH → Prop) : Nat → Nat → Nat → Nat → Int32 → JH → Prop
  | 0 => fun _ _ _ _ _ => False
  | n + 1 => fun r0 r3 r4 x5 h => W_X8_worked_235 D d Q (L_X8_worked_235 D d Q n) r0 r3 r4 x5 h
theorem l_X8_worked_235 {D : JD} {d : Nat} {Q : JO → JH → Prop} : ∀ (n : Nat) (r0 : Nat) (r3 : Nat) (r4 : Nat) (x5 : Int32) (h : JH), L_X8_worked_235 D d Q n r0 r3 r4 x5 h → JW D (d + 1) mX8_worked 235 [some (vR 41 r0), none, none, some (vR 46 r3), some (vR 46 r4), some (vI x5)] [] h Q := by
  intro n
  induction n with
  | zero => intro _ _ _ _ _ w; exact w.elim
  | succ n ih => intro _ _ _ _ h w; exact w_X8_worked_235 ih w
def W_X8_worked_204 (D : JD) (d : Nat) (Q : JO → JH → Prop) (K204 : Nat → Nat → Nat → Nat → Int32 → JH → Prop) (r0 : Nat) (r2 : Nat) (r3 : Nat) (r4 : Nat) (x5 : Int32) (h : JH) : Prop :=
  r2 ≠ 0 ∧ (((jfi h 268 r2) ≤ x5 → ∃ n, L_X8_worked_235 D d Q n r0 r3 r4 (0 : Int32) h) ∧ (¬ (jfi h 268 r2) ≤ x5 → (jfr h 269 r2) ≠ 0 ∧ jin x5 (jln h (jfr h 269 r2)) ∧ (r0 ≠ 0 ∧ (cX8_put_2 D d r0 r4 (jai h (jfr h 269 r2) (ixn x5)) h (pV D h (fun h_6 => K204 r0 r2 r3 r4 (x5 + (1 : Int32)) h_6) (jth Q))))))
theorem w_X8_worked_204 {D : JD} {d : Nat} {Q : JO → JH → Prop} {K204 : Nat → Nat → Nat → Nat → Int32 → JH → Prop} {r0 : Nat} {r2 : Nat} {r3 : Nat} {r4 : Nat} {x5 : Int32} {h : JH} (hK204 : ∀ (r0 : Nat) (r2 : Nat) (r3 : Nat) (r4 : Nat) (x5 : Int32) (h : JH), K204 r0 r2 r3 r4 x5 h → JW D (d + 1) mX8_worked 204 [some (vR 41 r0), none, some (vR 46 r2), some (vR 46 r3), some (vR 46 r4), some (vI x5)] [] h Q) (w : W_X8_worked_204 D d Q K204 r0 r2 r3 r4 x5 h) : JW D (d + 1) mX8_worked 204 [some (vR 41 r0), none, some (vR 46 r2), some (vR 46 r3), some (vR 46 r4), some (vI x5)] [] h Q := by
  unfold W_X8_worked_204 at w
  refine jw_iload (pc' := 206) rfl rfl ?_
  refine jw_aload_n (pc' := 207) rfl rfl ?_
  obtain ⟨g_1, w⟩ := w
  refine jw_getI (pc' := 210) (F := 268) rfl rfl rfl rfl g_1 ?_
  refine jw_icmp_ge (tgt := 232) (pc' := 213) rfl rfl (fun c_2 => ?_) (fun c_2 => ?_)
  · replace w := w.1 c_2
    refine jw_iconst (pc' := 233) (x := (0 : Int32)) rfl rfl ?_
    refine jw_istore (pc' := 235) (ls' := [some (vR 41 r0), none, some (vR 46 r2), some (vR 46 r3), some (vR 46 r4), some (vI (0 : Int32))]) rfl (by decide) rfl ?_
    refine jw_gen (ls' := [some (vR 41 r0), none, none, some (vR 46 r3), some (vR 46 r4), some (vI (0 : Int32))]) (st' := []) (And.intro (Or.inl rfl) (And.intro (Or.inl rfl) (And.intro (Or.inl rfl) (And.intro (Or.inl rfl) (trivial))))) (trivial) ?_
    obtain ⟨n, w⟩ := w
    exact l_X8_worked_235 n _ _ _ _ _ w
  · replace w := w.2 c_2
    refine jw_aload_n (pc' := 214) rfl rfl ?_
    refine jw_aload (pc' := 216) rfl rfl ?_
    refine jw_aload_n (pc' := 217) rfl rfl ?_
    refine jw_getR (pc' := 220) (F := 269) (t' := 197) rfl rfl rfl rfl rfl g_1 ?_
    refine jw_iload (pc' := 222) rfl rfl ?_
    obtain ⟨g_3, w⟩ := w
    obtain ⟨g_4, w⟩ := w
    refine jw_bald (pc' := 223) rfl rfl rfl rfl g_3 g_4.ix g_4.2 ?_
    obtain ⟨g_5, w⟩ := w
    refine jw_cV (st := []) (sa := [vR 41 r0, vR 46 r4, vI (jai h (jfr h 269 r2) (ixn x5))]) okX8_put_2 rfl rfl rfl rfl rfl rfl (jstp_virtual (sa := [vR 46 r4, vI (jai h (jfr h 269 r2) (ixn x5))]) (st := []) (k := 0) rfl rfl sX8_put_2 okX8_put_2 g_5 (one41.k g_5) rfl rfl) w (fun h_6 _ _ w => ?_)
    refine jw_iinc (pc' := 229) (y := x5 + (1 : Int32)) (ls' := [some (vR 41 r0), none, some (vR 46 r2), some (vR 46 r3), some (vR 46 r4), some (vI (x5 + (1 : Int32)))]) rfl (by decide) rfl rfl rfl ?_
    refine jw_goto (pc' := 204) rfl rfl ?_
    exact hK204 _ _ _ _ _ _ w
def L_X8_worked_204 (D : JD) (d : Nat) (Q : JO → JH → Prop) : Nat → Nat → Nat → Nat → Nat → Int32 → JH → Prop
  | 0 => fun _ _ _ _ _ _ => False
  | n + 1 => fun r0 r2 r3 r4 x5 h => W_X8_worked_204 D d Q (L_X8_worked_204 D d Q n) r0 r2 r3 r4 x5 h
theorem l_X8_worked_204 {D : JD} {d : Nat} {Q : JO → JH → Prop} : ∀ (n : Nat) (r0 : Nat) (r2 : Nat) (r3 : Nat) (r4 : Nat) (x5 : Int32) (h : JH), L_X8_worked_204 D d Q n r0 r2 r3 r4 x5 h → JW D (d + 1) mX8_worked 204 [some (vR 41 r0), none, some (vR 46 r2), some (vR 46 r3), some (vR 46 r4), some (vI x5)] [] h Q := by
  intro n
  induction n with
  | zero => intro _ _ _ _ _ _ w; exact w.elim
  | succ n ih => intro _ _ _ _ _ h w; exact w_X8_worked_204 ih w
def W_X8_worked_0 (D : JD) (d : Nat) (Q : JO → JH → Prop) (r0 : Nat) (x1 : Int32) (r2 : Nat) (r3 : Nat) (h : JH) : Prop :=
  r2 ≠ 0 ∧ (((jfi h 266 r2) = 0 → W_X8_worked_14 D d Q r0 h) ∧ (¬ (jfi h 266 r2) = 0 → r3 ≠ 0 ∧ ((¬ (jfi h 266 r3) = 0 → (x1 = (0 : Int32) → r0 ≠ 0 ∧ (cX8_number D d r0 ((jfl h 267 r2) + (jfl h 267 r3)) h (pR D h 46 (fun v_9 h_7 => Q (.inl (some (vR 46 v_9))) h_7) (jth Q)))) ∧ (x1 = (1 : Int32) → r0 ≠ 0 ∧ (cX8_number D d r0 ((jfl h 267 r2) - (jfl h 267 r3)) h (pR D h 46 (fun v_14 h_12 => Q (.inl (some (vR 46 v_14))) h_12) (jth Q)))) ∧ (x1 = (2 : Int32) → ((lg_cmp (jfl h 267 r2) (0 : Int64)) = 0 → W_X8_worked_116 D d Q r0 r2 r3 r0 h) ∧ (¬ (lg_cmp (jfl h 267 r2) (0 : Int64)) = 0 → cJ15_abs D d (jfl h 267 r3) h (pL D h (fun v_18 h_17 => cJ15_abs D d (jfl h_17 267 r2) h_17 (pL D h_17 (fun v_20 h_19 => ¬ v_20 = 0 ∧ ((0 < (lg_cmp v_18 ((9007199254740991 : Int64) / v_20)) → W_X8_worked_121 D d Q r0 r2 r3 r0 (0 : Int32) h_19) ∧ (¬ 0 < (lg_cmp v_18 ((9007199254740991 : Int64) / v_20)) → W_X8_worked_116 D d Q r0 r2 r3 r0 h_19))) (jth Q))) (jth Q)))) ∧ (x1 = (3 : Int32) → ((lg_cmp (jfl h 267 r3) (0 : Int64)) = 0 → W_X8_worked_155 D d Q r0 x1 r2 r3 r0 (0 : Int32) h) ∧ (¬ (lg_cmp (jfl h 267 r3) (0 : Int64)) = 0 → W_X8_worked_155 D d Q r0 x1 r2 r3 r0 (1 : Int32) h)) ∧ (x1 = (4 : Int32) → ((lg_cmp (jfl h 267 r3) (0 : Int64)) = 0 → W_X8_worked_155 D d Q r0 x1 r2 r3 r0 (0 : Int32) h) ∧ (¬ (lg_cmp (jfl h 267 r3) (0 : Int64)) = 0 → W_X8_worked_155 D d Q r0 x1 r2 r3 r0 (1 : Int32) h)) ∧ (¬ x1 = (0 : Int32) → ¬ x1 = (1 : Int32) → ¬ x1 = (2 : Int32) → ¬ x1 = (3 : Int32) → ¬ x1 = (4 : Int32) → r0 ≠ 0 ∧ (cX8_value D d r0 (25 : Int32) (0 : Int64) h (pR D h 46 (fun v_30 h_28 => ∃ n, L_X8_worked_204 D d Q n r0 r2 r3 v_30 (0 : Int32) h_28) (jth Q))))) ∧ ((jfi h 266 r3) = 0 → W_X8_worked_14 D d Q r0 h))))
theorem w_X8_worked_0 {D : JD} {d : Nat} {Q : JO → JH → Prop} {r0 : Nat} {x1 : Int32} {r2 : Nat} {r3 : Nat} {h : JH} (w : W_X8_worked_0 D d Q r0 x1 r2 r3 h) : JW D (d + 1) mX8_worked 0 [some (vR 41 r0), some (vI x1), some (vR 46 r2), some (vR 46 r3), none, none] [] h Q := by
  unfold W_X8_worked_0 at w
  refine jw_aload_n (pc' := 1) rfl rfl ?_
  obtain ⟨g_1, w⟩ := w
  refine jw_getI (pc' := 4) (F := 266) rfl rfl rfl rfl g_1 ?_
  refine jw_if_eq (tgt := 14) (pc' := 7) rfl rfl (fun c_2 => ?_) (fun c_2 => ?_)
  · replace w := w.1 c_2
    refine jw_gen (ls' := [some (vR 41 r0), none, none, none, none, none]) (st' := []) (And.intro (Or.inl rfl) (trivial)) (trivial) ?_
    exact w_X8_worked_14 w
  · replace w := w.2 c_2
    refine jw_aload_n (pc' := 8) rfl rfl ?_
    obtain ⟨g_3, w⟩ := w
    refine jw_getI (pc' := 11) (F := 266) rfl rfl rfl rfl g_3 ?_
    refine jw_if_ne (tgt := 21) (pc' := 14) rfl rfl (fun c_4 => ?_) (fun c_4 => ?_)
    · replace w := w.1 c_4
      refine jw_iload_n (pc' := 22) rfl rfl ?_
      refine jw_tsw (cs := [((0 : Int32), 56), ((1 : Int32), 70), ((2 : Int32), 84), ((3 : Int32), 140), ((4 : Int32), 140)]) (dt := 192) rfl (by decide +kernel) ?_
      by_cases c_5 : x1 = (0 : Int32)
      · rw [jsw_hit c_5]
        replace w := w.1 c_5
        refine jw_aload_n (pc' := 57) rfl rfl ?_
        refine jw_aload_n (pc' := 58) rfl rfl ?_
        refine jw_getL (pc' := 61) (F := 267) rfl rfl rfl rfl g_1 ?_
        refine jw_aload_n (pc' := 62) rfl rfl ?_
        refine jw_getL (pc' := 65) (F := 267) rfl rfl rfl rfl g_3 ?_
        refine jw_ladd (pc' := 66) rfl ?_
        obtain ⟨g_6, w⟩ := w
        refine jw_cR (st := []) (sa := [vR 41 r0, vL ((jfl h 267 r2) + (jfl h 267 r3))]) okX8_number rfl rfl rfl rfl rfl rfl (jstp_virtual (sa := [vL ((jfl h 267 r2) + (jfl h 267 r3))]) (st := []) (k := 0) rfl rfl sX8_number okX8_number g_6 (one41.k g_6) rfl rfl) w (fun v_9 h_7 _ _ _ w => ?_)
        exact jw_areturn rfl rfl rfl rfl rfl w
      · rw [jsw_miss c_5]
        replace w := w.2
        by_cases c_10 : x1 = (1 : Int32)
        · rw [jsw_hit c_10]
          replace w := w.1 c_10
          refine jw_aload_n (pc' := 71) rfl rfl ?_
          refine jw_aload_n (pc' := 72) rfl rfl ?_
          refine jw_getL (pc' := 75) (F := 267) rfl rfl rfl rfl g_1 ?_
          refine jw_aload_n (pc' := 76) rfl rfl ?_
          refine jw_getL (pc' := 79) (F := 267) rfl rfl rfl rfl g_3 ?_
          refine jw_lsub (pc' := 80) rfl ?_
          obtain ⟨g_11, w⟩ := w
          refine jw_cR (st := []) (sa := [vR 41 r0, vL ((jfl h 267 r2) - (jfl h 267 r3))]) okX8_number rfl rfl rfl rfl rfl rfl (jstp_virtual (sa := [vL ((jfl h 267 r2) - (jfl h 267 r3))]) (st := []) (k := 0) rfl rfl sX8_number okX8_number g_11 (one41.k g_11) rfl rfl) w (fun v_14 h_12 _ _ _ w => ?_)
          exact jw_areturn rfl rfl rfl rfl rfl w
        · rw [jsw_miss c_10]
          replace w := w.2
          by_cases c_15 : x1 = (2 : Int32)
          · rw [jsw_hit c_15]
            replace w := w.1 c_15
            refine jw_aload_n (pc' := 85) rfl rfl ?_
            refine jw_aload_n (pc' := 86) rfl rfl ?_
            refine jw_getL (pc' := 89) (F := 267) rfl rfl rfl rfl g_1 ?_
            refine jw_lconst (pc' := 90) (x := (0 : Int64)) rfl rfl ?_
            refine jw_lcmp (pc' := 91) rfl ?_
            refine jw_if_eq (tgt := 116) (pc' := 94) rfl rfl (fun c_16 => ?_) (fun c_16 => ?_)
            · replace w := w.1 c_16
              refine jw_gen (ls' := [some (vR 41 r0), none, some (vR 46 r2), some (vR 46 r3), none, none]) (st' := [vR 41 r0]) (And.intro (Or.inl rfl) (And.intro (Or.inl rfl) (And.intro (Or.inl rfl) (trivial)))) (And.intro (Or.inl rfl) (trivial)) ?_
              exact w_X8_worked_116 w
            · replace w := w.2 c_16
              refine jw_aload_n (pc' := 95) rfl rfl ?_
              refine jw_getL (pc' := 98) (F := 267) rfl rfl rfl rfl g_3 ?_
              refine jw_cL (st := [vR 41 r0]) (sa := [vL (jfl h 267 r3)]) okJ15_abs rfl rfl rfl rfl rfl rfl (jstp_static (sa := [vL (jfl h 267 r3)]) (st := [vR 41 r0]) rfl rfl sJ15_abs okJ15_abs rfl rfl) w (fun v_18 h_17 _ _ w => ?_)
              refine jw_ldc2 (pc' := 104) (v := (9007199254740991 : Int64)) rfl rfl ?_
              refine jw_aload_n (pc' := 105) rfl rfl ?_
              refine jw_getL (pc' := 108) (F := 267) rfl rfl rfl rfl g_1 ?_
              refine jw_cL (st := [vL (9007199254740991 : Int64), vL v_18, vR 41 r0]) (sa := [vL (jfl h_17 267 r2)]) okJ15_abs rfl rfl rfl rfl rfl rfl (jstp_static (sa := [vL (jfl h_17 267 r2)]) (st := [vL (9007199254740991 : Int64), vL v_18, vR 41 r0]) rfl rfl sJ15_abs okJ15_abs rfl rfl) w (fun v_20 h_19 _ _ w => ?_)
              obtain ⟨g_21, w⟩ := w
              refine jw_ldiv (pc' := 112) rfl g_21 ?_
              refine jw_lcmp (pc' := 113) rfl ?_
              refine jw_if_gt (tgt := 120) (pc' := 116) rfl rfl (fun c_22 => ?_) (fun c_22 => ?_)
              · replace w := w.1 c_22
                refine jw_iconst (pc' := 121) (x := (0 : Int32)) rfl rfl ?_
                refine jw_gen (ls' := [some (vR 41 r0), none, some (vR 46 r2), some (vR 46 r3), none, none]) (st' := [vI (0 : Int32), vR 41 r0]) (And.intro (Or.inl rfl) (And.intro (Or.inl rfl) (And.intro (Or.inl rfl) (trivial)))) (And.intro (Or.inl rfl) (And.intro (Or.inl rfl) (trivial))) ?_
                exact w_X8_worked_121 w
              · replace w := w.2 c_22
                refine jw_gen (ls' := [some (vR 41 r0), none, some (vR 46 r2), some (vR 46 r3), none, none]) (st' := [vR 41 r0]) (And.intro (Or.inl rfl) (And.intro (Or.inl rfl) (And.intro (Or.inl rfl) (trivial)))) (And.intro (Or.inl rfl) (trivial)) ?_
                exact w_X8_worked_116 w
          · rw [jsw_miss c_15]
            replace w := w.2
            by_cases c_23 : x1 = (3 : Int32)
            · rw [jsw_hit c_23]
              replace w := w.1 c_23
              refine jw_aload_n (pc' := 141) rfl rfl ?_
              refine jw_aload_n (pc' := 142) rfl rfl ?_
              refine jw_getL (pc' := 145) (F := 267) rfl rfl rfl rfl g_3 ?_
              refine jw_lconst (pc' := 146) (x := (0 : Int64)) rfl rfl ?_
              refine jw_lcmp (pc' := 147) rfl ?_
              refine jw_if_eq (tgt := 154) (pc' := 150) rfl rfl (fun c_24 => ?_) (fun c_24 => ?_)
              · replace w := w.1 c_24
                refine jw_iconst (pc' := 155) (x := (0 : Int32)) rfl rfl ?_
                exact w_X8_worked_155 w
              · replace w := w.2 c_24
                refine jw_iconst (pc' := 151) (x := (1 : Int32)) rfl rfl ?_
                refine jw_goto (pc' := 155) rfl rfl ?_
                exact w_X8_worked_155 w
            · rw [jsw_miss c_23]
              replace w := w.2
              by_cases c_25 : x1 = (4 : Int32)
              · rw [jsw_hit c_25]
                replace w := w.1 c_25
                refine jw_aload_n (pc' := 141) rfl rfl ?_
                refine jw_aload_n (pc' := 142) rfl rfl ?_
                refine jw_getL (pc' := 145) (F := 267) rfl rfl rfl rfl g_3 ?_
                refine jw_lconst (pc' := 146) (x := (0 : Int64)) rfl rfl ?_
                refine jw_lcmp (pc' := 147) rfl ?_
                refine jw_if_eq (tgt := 154) (pc' := 150) rfl rfl (fun c_26 => ?_) (fun c_26 => ?_)
                · replace w := w.1 c_26
                  refine jw_iconst (pc' := 155) (x := (0 : Int32)) rfl rfl ?_
                  exact w_X8_worked_155 w
                · replace w := w.2 c_26
                  refine jw_iconst (pc' := 151) (x := (1 : Int32)) rfl rfl ?_
                  refine jw_goto (pc' := 155) rfl rfl ?_
                  exact w_X8_worked_155 w
              · rw [jsw_miss c_25]
                replace w := w.2
                rw [jsw_nil]
                replace w := w c_5 c_10 c_15 c_23 c_25
                refine jw_aload_n (pc' := 193) rfl rfl ?_
                refine jw_bipush (pc' := 195) (x := (25 : Int32)) rfl rfl ?_
                refine jw_lconst (pc' := 196) (x := (0 : Int64)) rfl rfl ?_
                obtain ⟨g_27, w⟩ := w
                refine jw_cR (st := []) (sa := [vR 41 r0, vI (25 : Int32), vL (0 : Int64)]) okX8_value rfl rfl rfl rfl rfl rfl (jstp_virtual (sa := [vI (25 : Int32), vL (0 : Int64)]) (st := []) (k := 0) rfl rfl sX8_value okX8_value g_27 (one41.k g_27) rfl rfl) w (fun v_30 h_28 _ _ _ w => ?_)
                refine jw_astore (pc' := 201) (ls' := [some (vR 41 r0), some (vI x1), some (vR 46 r2), some (vR 46 r3), some (vR 46 v_30), none]) rfl (by decide) rfl ?_
                refine jw_iconst (pc' := 202) (x := (0 : Int32)) rfl rfl ?_
                refine jw_istore (pc' := 204) (ls' := [some (vR 41 r0), some (vI x1), some (vR 46 r2), some (vR 46 r3), some (vR 46 v_30), some (vI (0 : Int32))]) rfl (by decide) rfl ?_
                refine jw_gen (ls' := [some (vR 41 r0), none, some (vR 46 r2), some (vR 46 r3), some (vR 46 v_30), some (vI (0 : Int32))]) (st' := []) (And.intro (Or.inl rfl) (And.intro (Or.inl rfl) (And.intro (Or.inl rfl) (And.intro (Or.inl rfl) (And.intro (Or.inl rfl) (trivial)))))) (trivial) ?_
                obtain ⟨n, w⟩ := w
                exact l_X8_worked_204 n _ _ _ _ _ _ w
    · replace w := w.2 c_4
      refine jw_gen (ls' := [some (vR 41 r0), none, none, none, none, none]) (st' := []) (And.intro (Or.inl rfl) (trivial)) (trivial) ?_
      exact w_X8_worked_14 w
def T_X8_worked (D : JD) (d : Nat) (Q : JO → JH → Prop) (r0 : Nat) (x1 : Int32) (r2 : Nat) (r3 : Nat) (h : JH) : Prop := W_X8_worked_0 D d Q r0 x1 r2 r3 h
theorem t_X8_worked {D : JD} {d : Nat} {Q : JO → JH → Prop} {r0 : Nat} {x1 : Int32} {r2 : Nat} {r3 : Nat} {h : JH} (w : T_X8_worked D d Q r0 x1 r2 r3 h) : cX8_worked D (d + 1) r0 x1 r2 r3 h Q := by
  unfold T_X8_worked at w
  unfold cX8_worked
  exact w_X8_worked_0 w
def W_X8_copy_0 (D : JD) (d : Nat) (Q : JO → JH → Prop) (r0 : Nat) (r1 : Nat) (h : JH) : Prop :=
  r1 ≠ 0 ∧ (r0 ≠ 0 ∧ (cX8_value D d r0 (jfi h 266 r1) (jfl h 267 r1) h (pR D h 46 (fun v_5 h_3 => v_5 ≠ 0 ∧ (cX13_take D d v_5 r1 h_3 (pV D h_3 (fun h_7 => Q (.inl (some (vR 46 v_5))) h_7) (jth Q)))) (jth Q))))
theorem w_X8_copy_0 {D : JD} {d : Nat} {Q : JO → JH → Prop} {r0 : Nat} {r1 : Nat} {h : JH} (w : W_X8_copy_0 D d Q r0 r1 h) : JW D (d + 1) mX8_copy 0 [some (vR 41 r0), some (vR 46 r1), none] [] h Q := by
  unfold W_X8_copy_0 at w
  refine jw_aload_n (pc' := 1) rfl rfl ?_
  refine jw_aload_n (pc' := 2) rfl rfl ?_
  obtain ⟨g_1, w⟩ := w
  refine jw_getI (pc' := 5) (F := 266) rfl rfl rfl rfl g_1 ?_
  refine jw_aload_n (pc' := 6) rfl rfl ?_
  refine jw_getL (pc' := 9) (F := 267) rfl rfl rfl rfl g_1 ?_
  obtain ⟨g_2, w⟩ := w
  refine jw_cR (st := []) (sa := [vR 41 r0, vI (jfi h 266 r1), vL (jfl h 267 r1)]) okX8_value rfl rfl rfl rfl rfl rfl (jstp_virtual (sa := [vI (jfi h 266 r1), vL (jfl h 267 r1)]) (st := []) (k := 0) rfl rfl sX8_value okX8_value g_2 (one41.k g_2) rfl rfl) w (fun v_5 h_3 _ _ _ w => ?_)
  refine jw_astore_n (pc' := 13) (ls' := [some (vR 41 r0), some (vR 46 r1), some (vR 46 v_5)]) rfl (by decide) rfl ?_
  refine jw_aload_n (pc' := 14) rfl rfl ?_
  refine jw_aload_n (pc' := 15) rfl rfl ?_
  obtain ⟨g_6, w⟩ := w
  refine jw_cV (st := []) (sa := [vR 46 v_5, vR 46 r1]) okX13_take rfl rfl rfl rfl rfl rfl (jstp_virtual (sa := [vR 46 r1]) (st := []) (k := 0) rfl rfl sX13_take okX13_take g_6 (one46.k g_6) rfl rfl) w (fun h_7 _ _ w => ?_)
  refine jw_aload_n (pc' := 19) rfl rfl ?_
  exact jw_areturn rfl rfl rfl rfl rfl w
def T_X8_copy (D : JD) (d : Nat) (Q : JO → JH → Prop) (r0 : Nat) (r1 : Nat) (h : JH) : Prop := W_X8_copy_0 D d Q r0 r1 h
theorem t_X8_copy {D : JD} {d : Nat} {Q : JO → JH → Prop} {r0 : Nat} {r1 : Nat} {h : JH} (w : T_X8_copy D d Q r0 r1 h) : cX8_copy D (d + 1) r0 r1 h Q := by
  unfold T_X8_copy at w
  unfold cX8_copy
  exact w_X8_copy_0 w
def W_X8_different_93 (D : JD) (d : Nat) (Q : JO → JH → Prop) (K2 : Nat → Nat → Int32 → JH → Prop) (r0 : Nat) (r1 : Nat) (x2 : Int32) (h : JH) : Prop :=
  K2 r0 r1 (x2 + (1 : Int32)) h
theorem w_X8_different_93 {D : JD} {d : Nat} {Q : JO → JH → Prop} {K2 : Nat → Nat → Int32 → JH → Prop} {r0 : Nat} {r1 : Nat} {x2 : Int32} {h : JH} (hK2 : ∀ (r0 : Nat) (r1 : Nat) (x2 : Int32) (h : JH), K2 r0 r1 x2 h → JW D (d + 1) mX8_different 2 [some (vR 41 r0), some (vR 44 r1), some (vI x2), none, none] [] h Q) (w : W_X8_different_93 D d Q K2 r0 r1 x2 h) : JW D (d + 1) mX8_different 93 [some (vR 41 r0), some (vR 44 r1), some (vI x2), none, none] [] h Q := by
  unfold W_X8_different_93 at w
  refine jw_iinc (pc' := 96) (y := x2 + (1 : Int32)) (ls' := [some (vR 41 r0), some (vR 44 r1), some (vI (x2 + (1 : Int32))), none, none]) rfl (by decide) rfl rfl rfl ?_
  refine jw_goto (pc' := 2) rfl rfl ?_
  exact hK2 _ _ _ _ w
def W_X8_different_75 (D : JD) (d : Nat) (Q : JO → JH → Prop) (K2 : Nat → Nat → Int32 → JH → Prop) (K12 : Nat → Nat → Int32 → Int32 → JH → Prop) (K32 : Nat → Nat → Int32 → Int32 → Int32 → JH → Prop) (r0 : Nat) (r1 : Nat) (x2 : Int32) (x3 : Int32) (x4 : Int32) (q0 : Nat) (s1 : Int32) (h : JH) : Prop :=
  q0 ≠ 0 ∧ (cX8_must D d q0 s1 (jcs D 329) h (pV D h (fun h_2 => K32 r0 r1 x2 x3 (x4 + (1 : Int32)) h_2) (jth Q)))
theorem w_X8_different_75 {D : JD} {d : Nat} {Q : JO → JH → Prop} {K2 : Nat → Nat → Int32 → JH → Prop} {K12 : Nat → Nat → Int32 → Int32 → JH → Prop} {K32 : Nat → Nat → Int32 → Int32 → Int32 → JH → Prop} {r0 : Nat} {r1 : Nat} {x2 : Int32} {x3 : Int32} {x4 : Int32} {q0 : Nat} {s1 : Int32} {h : JH} (hK2 : ∀ (r0 : Nat) (r1 : Nat) (x2 : Int32) (h : JH), K2 r0 r1 x2 h → JW D (d + 1) mX8_different 2 [some (vR 41 r0), some (vR 44 r1), some (vI x2), none, none] [] h Q) (hK12 : ∀ (r0 : Nat) (r1 : Nat) (x2 : Int32) (x3 : Int32) (h : JH), K12 r0 r1 x2 x3 h → JW D (d + 1) mX8_different 12 [some (vR 41 r0), some (vR 44 r1), some (vI x2), some (vI x3), none] [] h Q) (hK32 : ∀ (r0 : Nat) (r1 : Nat) (x2 : Int32) (x3 : Int32) (x4 : Int32) (h : JH), K32 r0 r1 x2 x3 x4 h → JW D (d + 1) mX8_different 32 [some (vR 41 r0), some (vR 44 r1), some (vI x2), some (vI x3), some (vI x4)] [] h Q) (w : W_X8_different_75 D d Q K2 K12 K32 r0 r1 x2 x3 x4 q0 s1 h) : JW D (d + 1) mX8_different 75 [some (vR 41 r0), some (vR 44 r1), some (vI x2), some (vI x3), some (vI x4)] [vI s1, vR 41 q0] h Q := by
  unfold W_X8_different_75 at w
  refine jw_ldcwS (pc' := 78) rfl rfl rfl rfl ?_
  obtain ⟨g_1, w⟩ := w
  refine jw_cV (st := []) (sa := [vR 41 q0, vI s1, vR 51 (jcs D 329)]) okX8_must rfl rfl rfl rfl rfl rfl (jstp_virtual (sa := [vI s1, vR 51 (jcs D 329)]) (st := []) (k := 0) rfl rfl sX8_must okX8_must g_1 (one41.k g_1) rfl rfl) w (fun h_2 _ _ w => ?_)
  refine jw_iinc (pc' := 84) (y := x4 + (1 : Int32)) (ls' := [some (vR 41 r0), some (vR 44 r1), some (vI x2), some (vI x3), some (vI (x4 + (1 : Int32)))]) rfl (by decide) rfl rfl rfl ?_
  refine jw_goto (pc' := 32) rfl rfl ?_
  exact hK32 _ _ _ _ _ _ w
def W_X8_different_70 (D : JD) (d : Nat) (Q : JO → JH → Prop) (K2 : Nat → Nat → Int32 → JH → Prop) (K12 : Nat → Nat → Int32 → Int32 → JH → Prop) (K32 : Nat → Nat → Int32 → Int32 → Int32 → JH → Prop) (r0 : Nat) (r1 : Nat) (x2 : Int32) (x3 : Int32) (x4 : Int32) (q0 : Nat) (h : JH) : Prop :=
  W_X8_different_75 D d Q K2 K12 K32 r0 r1 x2 x3 x4 q0 (1 : Int32) h
theorem w_X8_different_70 {D : JD} {d : Nat} {Q : JO → JH → Prop} {K2 : Nat → Nat → Int32 → JH → Prop} {K12 : Nat → Nat → Int32 → Int32 → JH → Prop} {K32 : Nat → Nat → Int32 → Int32 → Int32 → JH → Prop} {r0 : Nat} {r1 : Nat} {x2 : Int32} {x3 : Int32} {x4 : Int32} {q0 : Nat} {h : JH} (hK2 : ∀ (r0 : Nat) (r1 : Nat) (x2 : Int32) (h : JH), K2 r0 r1 x2 h → JW D (d + 1) mX8_different 2 [some (vR 41 r0), some (vR 44 r1), some (vI x2), none, none] [] h Q) (hK12 : ∀ (r0 : Nat) (r1 : Nat) (x2 : Int32) (x3 : Int32) (h : JH), K12 r0 r1 x2 x3 h → JW D (d + 1) mX8_different 12 [some (vR 41 r0), some (vR 44 r1), some (vI x2), some (vI x3), none] [] h Q) (hK32 : ∀ (r0 : Nat) (r1 : Nat) (x2 : Int32) (x3 : Int32) (x4 : Int32) (h : JH), K32 r0 r1 x2 x3 x4 h → JW D (d + 1) mX8_different 32 [some (vR 41 r0), some (vR 44 r1), some (vI x2), some (vI x3), some (vI x4)] [] h Q) (w : W_X8_different_70 D d Q K2 K12 K32 r0 r1 x2 x3 x4 q0 h) : JW D (d + 1) mX8_different 70 [some (vR 41 r0), some (vR 44 r1), some (vI x2), some (vI x3), some (vI x4)] [vR 41 q0] h Q := by
  unfold W_X8_different_70 at w
  refine jw_iconst (pc' := 71) (x := (1 : Int32)) rfl rfl ?_
  refine jw_goto (pc' := 75) rfl rfl ?_
  exact w_X8_different_75 hK2 hK12 hK32 w
def W_X8_different_32 (D : JD) (d : Nat) (Q : JO → JH → Prop) (K2 : Nat → Nat → Int32 → JH → Prop) (K12 : Nat → Nat → Int32 → Int32 → JH → Prop) (K32 : Nat → Nat → Int32 → Int32 → Int32 → JH → Prop) (r0 : Nat) (r1 : Nat) (x2 : Int32) (x3 : Int32) (x4 : Int32) (h : JH) : Prop :=
  (x3 ≤ x4 → K12 r0 r1 x2 (x3 + (1 : Int32)) h) ∧ (¬ x3 ≤ x4 → r1 ≠ 0 ∧ (cX11_cell D d r1 x3 x2 h (pR D h 46 (fun v_5 h_3 => v_5 ≠ 0 ∧ (((jfi h_3 266 v_5) = 0 → W_X8_different_70 D d Q K2 K12 K32 r0 r1 x2 x3 x4 r0 h_3) ∧ (¬ (jfi h_3 266 v_5) = 0 → cX11_cell D d r1 x3 x2 h_3 (pR D h_3 46 (fun v_10 h_8 => cX11_cell D d r1 x4 x2 h_8 (pR D h_8 46 (fun v_13 h_11 => cX8_alike D d v_10 v_13 h_11 (pI D h_11 (fun v_16 h_14 => (¬ v_16 = 0 → W_X8_different_75 D d Q K2 K12 K32 r0 r1 x2 x3 x4 r0 (0 : Int32) h_14) ∧ (v_16 = 0 → W_X8_different_70 D d Q K2 K12 K32 r0 r1 x2 x3 x4 r0 h_14)) (jth Q))) (jth Q))) (jth Q))))) (jth Q))))
theorem w_X8_different_32 {D : JD} {d : Nat} {Q : JO → JH → Prop} {K2 : Nat → Nat → Int32 → JH → Prop} {K12 : Nat → Nat → Int32 → Int32 → JH → Prop} {K32 : Nat → Nat → Int32 → Int32 → Int32 → JH → Prop} {r0 : Nat} {r1 : Nat} {x2 : Int32} {x3 : Int32} {x4 : Int32} {h : JH} (hK2 : ∀ (r0 : Nat) (r1 : Nat) (x2 : Int32) (h : JH), K2 r0 r1 x2 h → JW D (d + 1) mX8_different 2 [some (vR 41 r0), some (vR 44 r1), some (vI x2), none, none] [] h Q) (hK12 : ∀ (r0 : Nat) (r1 : Nat) (x2 : Int32) (x3 : Int32) (h : JH), K12 r0 r1 x2 x3 h → JW D (d + 1) mX8_different 12 [some (vR 41 r0), some (vR 44 r1), some (vI x2), some (vI x3), none] [] h Q) (hK32 : ∀ (r0 : Nat) (r1 : Nat) (x2 : Int32) (x3 : Int32) (x4 : Int32) (h : JH), K32 r0 r1 x2 x3 x4 h → JW D (d + 1) mX8_different 32 [some (vR 41 r0), some (vR 44 r1), some (vI x2), some (vI x3), some (vI x4)] [] h Q) (w : W_X8_different_32 D d Q K2 K12 K32 r0 r1 x2 x3 x4 h) : JW D (d + 1) mX8_different 32 [some (vR 41 r0), some (vR 44 r1), some (vI x2), some (vI x3), some (vI x4)] [] h Q := by
  unfold W_X8_different_32 at w
  refine jw_iload (pc' := 34) rfl rfl ?_
  refine jw_iload_n (pc' := 35) rfl rfl ?_
  refine jw_icmp_ge (tgt := 87) (pc' := 38) rfl rfl (fun c_1 => ?_) (fun c_1 => ?_)
  · replace w := w.1 c_1
    refine jw_iinc (pc' := 90) (y := x3 + (1 : Int32)) (ls' := [some (vR 41 r0), some (vR 44 r1), some (vI x2), some (vI (x3 + (1 : Int32))), some (vI x4)]) rfl (by decide) rfl rfl rfl ?_
    refine jw_goto (pc' := 12) rfl rfl ?_
    refine jw_gen (ls' := [some (vR 41 r0), some (vR 44 r1), some (vI x2), some (vI (x3 + (1 : Int32))), none]) (st' := []) (And.intro (Or.inl rfl) (And.intro (Or.inl rfl) (And.intro (Or.inl rfl) (And.intro (Or.inl rfl) (trivial))))) (trivial) ?_
    exact hK12 _ _ _ _ _ w
  · replace w := w.2 c_1
    refine jw_aload_n (pc' := 39) rfl rfl ?_
    refine jw_aload_n (pc' := 40) rfl rfl ?_
    refine jw_iload_n (pc' := 41) rfl rfl ?_
    refine jw_iload_n (pc' := 42) rfl rfl ?_
    obtain ⟨g_2, w⟩ := w
    refine jw_cR (st := [vR 41 r0]) (sa := [vR 44 r1, vI x3, vI x2]) okX11_cell rfl rfl rfl rfl rfl rfl (jstp_virtual (sa := [vI x3, vI x2]) (st := [vR 41 r0]) (k := 0) rfl rfl sX11_cell okX11_cell g_2 (one44.k g_2) rfl rfl) w (fun v_5 h_3 _ _ _ w => ?_)
    obtain ⟨g_6, w⟩ := w
    refine jw_getI (pc' := 48) (F := 266) rfl rfl rfl rfl g_6 ?_
    refine jw_if_eq (tgt := 70) (pc' := 51) rfl rfl (fun c_7 => ?_) (fun c_7 => ?_)
    · replace w := w.1 c_7
      exact w_X8_different_70 hK2 hK12 hK32 w
    · replace w := w.2 c_7
      refine jw_aload_n (pc' := 52) rfl rfl ?_
      refine jw_iload_n (pc' := 53) rfl rfl ?_
      refine jw_iload_n (pc' := 54) rfl rfl ?_
      refine jw_cR (st := [vR 41 r0]) (sa := [vR 44 r1, vI x3, vI x2]) okX11_cell rfl rfl rfl rfl rfl rfl (jstp_virtual (sa := [vI x3, vI x2]) (st := [vR 41 r0]) (k := 0) rfl rfl sX11_cell okX11_cell g_2 (one44.k g_2) rfl rfl) w (fun v_10 h_8 _ _ _ w => ?_)
      refine jw_aload_n (pc' := 58) rfl rfl ?_
      refine jw_iload (pc' := 60) rfl rfl ?_
      refine jw_iload_n (pc' := 61) rfl rfl ?_
      refine jw_cR (st := [vR 46 v_10, vR 41 r0]) (sa := [vR 44 r1, vI x4, vI x2]) okX11_cell rfl rfl rfl rfl rfl rfl (jstp_virtual (sa := [vI x4, vI x2]) (st := [vR 46 v_10, vR 41 r0]) (k := 0) rfl rfl sX11_cell okX11_cell g_2 (one44.k g_2) rfl rfl) w (fun v_13 h_11 _ _ _ w => ?_)
      refine jw_cI (st := [vR 41 r0]) (sa := [vR 46 v_10, vR 46 v_13]) okX8_alike rfl rfl rfl rfl rfl rfl (jstp_static (sa := [vR 46 v_10, vR 46 v_13]) (st := [vR 41 r0]) rfl rfl sX8_alike okX8_alike rfl rfl) w (fun v_16 h_14 _ _ w => ?_)
      refine jw_if_ne (tgt := 74) (pc' := 70) rfl rfl (fun c_17 => ?_) (fun c_17 => ?_)
      · replace w := w.1 c_17
        refine jw_iconst (pc' := 75) (x := (0 : Int32)) rfl rfl ?_
        exact w_X8_different_75 hK2 hK12 hK32 w
      · replace w := w.2 c_17
        exact w_X8_different_70 hK2 hK12 hK32 w
def L_X8_different_32 (D : JD) (d : Nat) (Q : JO → JH → Prop) (K2 : Nat → Nat → Int32 → JH → Prop) (K12 : Nat → Nat → Int32 → Int32 → JH → Prop) : Nat → Nat → Nat → Int32 → Int32 → Int32 → JH → Prop
  | 0 => fun _ _ _ _ _ _ => False
  | n + 1 => fun r0 r1 x2 x3 x4 h => W_X8_different_32 D d Q K2 K12 (L_X8_different_32 D d Q K2 K12 n) r0 r1 x2 x3 x4 h
theorem l_X8_different_32 {D : JD} {d : Nat} {Q : JO → JH → Prop} {K2 : Nat → Nat → Int32 → JH → Prop} {K12 : Nat → Nat → Int32 → Int32 → JH → Prop} (hK2 : ∀ (r0 : Nat) (r1 : Nat) (x2 : Int32) (h : JH), K2 r0 r1 x2 h → JW D (d + 1) mX8_different 2 [some (vR 41 r0), some (vR 44 r1), some (vI x2), none, none] [] h Q) (hK12 : ∀ (r0 : Nat) (r1 : Nat) (x2 : Int32) (x3 : Int32) (h : JH), K12 r0 r1 x2 x3 h → JW D (d + 1) mX8_different 12 [some (vR 41 r0), some (vR 44 r1), some (vI x2), some (vI x3), none] [] h Q) : ∀ (n : Nat) (r0 : Nat) (r1 : Nat) (x2 : Int32) (x3 : Int32) (x4 : Int32) (h : JH), L_X8_different_32 D d Q K2 K12 n r0 r1 x2 x3 x4 h → JW D (d + 1) mX8_different 32 [some (vR 41 r0), some (vR 44 r1), some (vI x2), some (vI x3), some (vI x4)] [] h Q := by
  intro n
  induction n with
  | zero => intro _ _ _ _ _ _ w; exact w.elim
  | succ n ih => intro _ _ _ _ _ h w; exact w_X8_different_32 hK2 hK12 ih w
def W_X8_different_12 (D : JD) (d : Nat) (Q : JO → JH → Prop) (K2 : Nat → Nat → Int32 → JH → Prop) (K12 : Nat → Nat → Int32 → Int32 → JH → Prop) (r0 : Nat) (r1 : Nat) (x2 : Int32) (x3 : Int32) (h : JH) : Prop :=
  r1 ≠ 0 ∧ (((jfi h 255 r1) ≤ x3 → W_X8_different_93 D d Q K2 r0 r1 x2 h) ∧ (¬ (jfi h 255 r1) ≤ x3 → (jfr h 254 r1) ≠ 0 ∧ jin x2 (jln h (jfr h 254 r1)) ∧ (((jai h (jfr h 254 r1) (ixn x2)) = 0 → W_X8_different_93 D d Q K2 r0 r1 x2 h) ∧ (¬ (jai h (jfr h 254 r1) (ixn x2)) = 0 → ∃ n, L_X8_different_32 D d Q K2 K12 n r0 r1 x2 x3 (0 : Int32) h))))
theorem w_X8_different_12 {D : JD} {d : Nat} {Q : JO → JH → Prop} {K2 : Nat → Nat → Int32 → JH → Prop} {K12 : Nat → Nat → Int32 → Int32 → JH → Prop} {r0 : Nat} {r1 : Nat} {x2 : Int32} {x3 : Int32} {h : JH} (hK2 : ∀ (r0 : Nat) (r1 : Nat) (x2 : Int32) (h : JH), K2 r0 r1 x2 h → JW D (d + 1) mX8_different 2 [some (vR 41 r0), some (vR 44 r1), some (vI x2), none, none] [] h Q) (hK12 : ∀ (r0 : Nat) (r1 : Nat) (x2 : Int32) (x3 : Int32) (h : JH), K12 r0 r1 x2 x3 h → JW D (d + 1) mX8_different 12 [some (vR 41 r0), some (vR 44 r1), some (vI x2), some (vI x3), none] [] h Q) (w : W_X8_different_12 D d Q K2 K12 r0 r1 x2 x3 h) : JW D (d + 1) mX8_different 12 [some (vR 41 r0), some (vR 44 r1), some (vI x2), some (vI x3), none] [] h Q := by
  unfold W_X8_different_12 at w
  refine jw_iload_n (pc' := 13) rfl rfl ?_
  refine jw_aload_n (pc' := 14) rfl rfl ?_
  obtain ⟨g_1, w⟩ := w
  refine jw_getI (pc' := 17) (F := 255) rfl rfl rfl rfl g_1 ?_
  refine jw_icmp_ge (tgt := 93) (pc' := 20) rfl rfl (fun c_2 => ?_) (fun c_2 => ?_)
  · replace w := w.1 c_2
    refine jw_gen (ls' := [some (vR 41 r0), some (vR 44 r1), some (vI x2), none, none]) (st' := []) (And.intro (Or.inl rfl) (And.intro (Or.inl rfl) (And.intro (Or.inl rfl) (trivial)))) (trivial) ?_
    exact w_X8_different_93 hK2 w
  · replace w := w.2 c_2
    refine jw_aload_n (pc' := 21) rfl rfl ?_
    refine jw_getR (pc' := 24) (F := 254) (t' := 191) rfl rfl rfl rfl rfl g_1 ?_
    refine jw_iload_n (pc' := 25) rfl rfl ?_
    obtain ⟨g_3, w⟩ := w
    obtain ⟨g_4, w⟩ := w
    refine jw_zald (pc' := 26) rfl rfl rfl rfl g_3 g_4.ix g_4.2 ?_
    refine jw_if_eq (tgt := 93) (pc' := 29) rfl rfl (fun c_5 => ?_) (fun c_5 => ?_)
    · replace w := w.1 c_5
      refine jw_gen (ls' := [some (vR 41 r0), some (vR 44 r1), some (vI x2), none, none]) (st' := []) (And.intro (Or.inl rfl) (And.intro (Or.inl rfl) (And.intro (Or.inl rfl) (trivial)))) (trivial) ?_
      exact w_X8_different_93 hK2 w
    · replace w := w.2 c_5
      refine jw_iconst (pc' := 30) (x := (0 : Int32)) rfl rfl ?_
      refine jw_istore (pc' := 32) (ls' := [some (vR 41 r0), some (vR 44 r1), some (vI x2), some (vI x3), some (vI (0 : Int32))]) rfl (by decide) rfl ?_
      obtain ⟨n, w⟩ := w
      exact l_X8_different_32 hK2 hK12 n _ _ _ _ _ _ w
def L_X8_different_12 (D : JD) (d : Nat) (Q : JO → JH → Prop) (K2 : Nat → Nat → Int32 → JH → Prop) : Nat → Nat → Nat → Int32 → Int32 → JH → Prop
  | 0 => fun _ _ _ _ _ => False
  | n + 1 => fun r0 r1 x2 x3 h => W_X8_different_12 D d Q K2 (L_X8_different_12 D d Q K2 n) r0 r1 x2 x3 h
theorem l_X8_different_12 {D : JD} {d : Nat} {Q : JO → JH → Prop} {K2 : Nat → Nat → Int32 → JH → Prop} (hK2 : ∀ (r0 : Nat) (r1 : Nat) (x2 : Int32) (h : JH), K2 r0 r1 x2 h → JW D (d + 1) mX8_different 2 [some (vR 41 r0), some (vR 44 r1), some (vI x2), none, none] [] h Q) : ∀ (n : Nat) (r0 : Nat) (r1 : Nat) (x2 : Int32) (x3 : Int32) (h : JH), L_X8_different_12 D d Q K2 n r0 r1 x2 x3 h → JW D (d + 1) mX8_different 12 [some (vR 41 r0), some (vR 44 r1), some (vI x2), some (vI x3), none] [] h Q := by
  intro n
  induction n with
  | zero => intro _ _ _ _ _ w; exact w.elim
  | succ n ih => intro _ _ _ _ h w; exact w_X8_different_12 hK2 ih w
def W_X8_different_2 (D : JD) (d : Nat) (Q : JO → JH → Prop) (K2 : Nat → Nat → Int32 → JH → Prop) (r0 : Nat) (r1 : Nat) (x2 : Int32) (h : JH) : Prop :=
  r1 ≠ 0 ∧ (((jfi h 250 r1) ≤ x2 → Q (.inl none) h) ∧ (¬ (jfi h 250 r1) ≤ x2 → ∃ n, L_X8_different_12 D d Q K2 n r0 r1 x2 (0 : Int32) h))
theorem w_X8_different_2 {D : JD} {d : Nat} {Q : JO → JH → Prop} {K2 : Nat → Nat → Int32 → JH → Prop} {r0 : Nat} {r1 : Nat} {x2 : Int32} {h : JH} (hK2 : ∀ (r0 : Nat) (r1 : Nat) (x2 : Int32) (h : JH), K2 r0 r1 x2 h → JW D (d + 1) mX8_different 2 [some (vR 41 r0), some (vR 44 r1), some (vI x2), none, none] [] h Q) (w : W_X8_different_2 D d Q K2 r0 r1 x2 h) : JW D (d + 1) mX8_different 2 [some (vR 41 r0), some (vR 44 r1), some (vI x2), none, none] [] h Q := by
  unfold W_X8_different_2 at w
  refine jw_iload_n (pc' := 3) rfl rfl ?_
  refine jw_aload_n (pc' := 4) rfl rfl ?_
  obtain ⟨g_1, w⟩ := w
  refine jw_getI (pc' := 7) (F := 250) rfl rfl rfl rfl g_1 ?_
  refine jw_icmp_ge (tgt := 99) (pc' := 10) rfl rfl (fun c_2 => ?_) (fun c_2 => ?_)
  · replace w := w.1 c_2
    exact jw_return rfl rfl w
  · replace w := w.2 c_2
    refine jw_iconst (pc' := 11) (x := (0 : Int32)) rfl rfl ?_
    refine jw_istore_n (pc' := 12) (ls' := [some (vR 41 r0), some (vR 44 r1), some (vI x2), some (vI (0 : Int32)), none]) rfl (by decide) rfl ?_
    obtain ⟨n, w⟩ := w
    exact l_X8_different_12 hK2 n _ _ _ _ _ w
def L_X8_different_2 (D : JD) (d : Nat) (Q : JO → JH → Prop) : Nat → Nat → Nat → Int32 → JH → Prop
  | 0 => fun _ _ _ _ => False
  | n + 1 => fun r0 r1 x2 h => W_X8_different_2 D d Q (L_X8_different_2 D d Q n) r0 r1 x2 h
theorem l_X8_different_2 {D : JD} {d : Nat} {Q : JO → JH → Prop} : ∀ (n : Nat) (r0 : Nat) (r1 : Nat) (x2 : Int32) (h : JH), L_X8_different_2 D d Q n r0 r1 x2 h → JW D (d + 1) mX8_different 2 [some (vR 41 r0), some (vR 44 r1), some (vI x2), none, none] [] h Q := by
  intro n
  induction n with
  | zero => intro _ _ _ _ w; exact w.elim
  | succ n ih => intro _ _ _ h w; exact w_X8_different_2 ih w
def W_X8_different_0 (D : JD) (d : Nat) (Q : JO → JH → Prop) (r0 : Nat) (r1 : Nat) (h : JH) : Prop :=
  ∃ n, L_X8_different_2 D d Q n r0 r1 (0 : Int32) h
theorem w_X8_different_0 {D : JD} {d : Nat} {Q : JO → JH → Prop} {r0 : Nat} {r1 : Nat} {h : JH} (w : W_X8_different_0 D d Q r0 r1 h) : JW D (d + 1) mX8_different 0 [some (vR 41 r0), some (vR 44 r1), none, none, none] [] h Q := by
  unfold W_X8_different_0 at w
  refine jw_iconst (pc' := 1) (x := (0 : Int32)) rfl rfl ?_
  refine jw_istore_n (pc' := 2) (ls' := [some (vR 41 r0), some (vR 44 r1), some (vI (0 : Int32)), none, none]) rfl (by decide) rfl ?_
  obtain ⟨n, w⟩ := w
  exact l_X8_different_2 n _ _ _ _ w
def T_X8_different (D : JD) (d : Nat) (Q : JO → JH → Prop) (r0 : Nat) (r1 : Nat) (h : JH) : Prop := W_X8_different_0 D d Q r0 r1 h
theorem t_X8_different {D : JD} {d : Nat} {Q : JO → JH → Prop} {r0 : Nat} {r1 : Nat} {h : JH} (w : T_X8_different D d Q r0 r1 h) : cX8_different D (d + 1) r0 r1 h Q := by
  unfold T_X8_different at w
  unfold cX8_different
  exact w_X8_different_0 w
def W_X8_update_2_180 (D : JD) (d : Nat) (Q : JO → JH → Prop) (K10 : Nat → Nat → Nat → Nat → Int32 → JH → Prop) (r0 : Nat) (r1 : Nat) (r2 : Nat) (r3 : Nat) (x4 : Int32) (h : JH) : Prop :=
  K10 r0 r1 r2 r3 (x4 + (1 : Int32)) h
theorem w_X8_update_2_180 {D : JD} {d : Nat} {Q : JO → JH → Prop} {K10 : Nat → Nat → Nat → Nat → Int32 → JH → Prop} {r0 : Nat} {r1 : Nat} {r2 : Nat} {r3 : Nat} {x4 : Int32} {h : JH} (hK10 : ∀ (r0 : Nat) (r1 : Nat) (r2 : Nat) (r3 : Nat) (x4 : Int32) (h : JH), K10 r0 r1 r2 r3 x4 h → JW D (d + 1) mX8_update_2 10 [some (vR 41 r0), some (vR 47 r1), some (vR 44 r2), some (vR 86 r3), some (vI x4), none] [] h Q) (w : W_X8_update_2_180 D d Q K10 r0 r1 r2 r3 x4 h) : JW D (d + 1) mX8_update_2 180 [some (vR 41 r0), some (vR 47 r1), some (vR 44 r2), some (vR 86 r3), some (vI x4), none] [] h Q := by
  unfold W_X8_update_2_180 at w
  refine jw_iinc (pc' := 183) (y := x4 + (1 : Int32)) (ls' := [some (vR 41 r0), some (vR 47 r1), some (vR 44 r2), some (vR 86 r3), some (vI (x4 + (1 : Int32))), none]) rfl (by decide) rfl rfl rfl ?_
  refine jw_goto (pc' := 10) rfl rfl ?_
  exact hK10 _ _ _ _ _ _ w
def W_X8_update_2_158 (D : JD) (d : Nat) (Q : JO → JH → Prop) (K10 : Nat → Nat → Nat → Nat → Int32 → JH → Prop) (K119 : Nat → Nat → Nat → Nat → Int32 → Int32 → JH → Prop) (r0 : Nat) (r1 : Nat) (r2 : Nat) (r3 : Nat) (x4 : Int32) (x5 : Int32) (q0 : Nat) (s1 : Int32) (h : JH) : Prop :=
  q0 ≠ 0 ∧ (cX8_must D d q0 s1 (jcs D 328) h (pV D h (fun h_2 => K119 r0 r1 r2 r3 x4 (x5 + (1 : Int32)) h_2) (jth Q)))
theorem w_X8_update_2_158 {D : JD} {d : Nat} {Q : JO → JH → Prop} {K10 : Nat → Nat → Nat → Nat → Int32 → JH → Prop} {K119 : Nat → Nat → Nat → Nat → Int32 → Int32 → JH → Prop} {r0 : Nat} {r1 : Nat} {r2 : Nat} {r3 : Nat} {x4 : Int32} {x5 : Int32} {q0 : Nat} {s1 : Int32} {h : JH} (hK10 : ∀ (r0 : Nat) (r1 : Nat) (r2 : Nat) (r3 : Nat) (x4 : Int32) (h : JH), K10 r0 r1 r2 r3 x4 h → JW D (d + 1) mX8_update_2 10 [some (vR 41 r0), some (vR 47 r1), some (vR 44 r2), some (vR 86 r3), some (vI x4), none] [] h Q) (hK119 : ∀ (r0 : Nat) (r1 : Nat) (r2 : Nat) (r3 : Nat) (x4 : Int32) (x5 : Int32) (h : JH), K119 r0 r1 r2 r3 x4 x5 h → JW D (d + 1) mX8_update_2 119 [some (vR 41 r0), some (vR 47 r1), some (vR 44 r2), some (vR 86 r3), some (vI x4), some (vI x5)] [] h Q) (w : W_X8_update_2_158 D d Q K10 K119 r0 r1 r2 r3 x4 x5 q0 s1 h) : JW D (d + 1) mX8_update_2 158 [some (vR 41 r0), some (vR 47 r1), some (vR 44 r2), some (vR 86 r3), some (vI x4), some (vI x5)] [vI s1, vR 41 q0] h Q := by
  unfold W_X8_update_2_158 at w
  refine jw_ldcwS (pc' := 161) rfl rfl rfl rfl ?_
  obtain ⟨g_1, w⟩ := w
  refine jw_cV (st := []) (sa := [vR 41 q0, vI s1, vR 51 (jcs D 328)]) okX8_must rfl rfl rfl rfl rfl rfl (jstp_virtual (sa := [vI s1, vR 51 (jcs D 328)]) (st := []) (k := 0) rfl rfl sX8_must okX8_must g_1 (one41.k g_1) rfl rfl) w (fun h_2 _ _ w => ?_)
  refine jw_iinc (pc' := 167) (y := x5 + (1 : Int32)) (ls' := [some (vR 41 r0), some (vR 47 r1), some (vR 44 r2), some (vR 86 r3), some (vI x4), some (vI (x5 + (1 : Int32)))]) rfl (by decide) rfl rfl rfl ?_
  refine jw_goto (pc' := 119) rfl rfl ?_
  exact hK119 _ _ _ _ _ _ _ w
def W_X8_update_2_153 (D : JD) (d : Nat) (Q : JO → JH → Prop) (K10 : Nat → Nat → Nat → Nat → Int32 → JH → Prop) (K119 : Nat → Nat → Nat → Nat → Int32 → Int32 → JH → Prop) (r0 : Nat) (r1 : Nat) (r2 : Nat) (r3 : Nat) (x4 : Int32) (x5 : Int32) (q0 : Nat) (h : JH) : Prop :=
  W_X8_update_2_158 D d Q K10 K119 r0 r1 r2 r3 x4 x5 q0 (1 : Int32) h
theorem w_X8_update_2_153 {D : JD} {d : Nat} {Q : JO → JH → Prop} {K10 : Nat → Nat → Nat → Nat → Int32 → JH → Prop} {K119 : Nat → Nat → Nat → Nat → Int32 → Int32 → JH → Prop} {r0 : Nat} {r1 : Nat} {r2 : Nat} {r3 : Nat} {x4 : Int32} {x5 : Int32} {q0 : Nat} {h : JH} (hK10 : ∀ (r0 : Nat) (r1 : Nat) (r2 : Nat) (r3 : Nat) (x4 : Int32) (h : JH), K10 r0 r1 r2 r3 x4 h → JW D (d + 1) mX8_update_2 10 [some (vR 41 r0), some (vR 47 r1), some (vR 44 r2), some (vR 86 r3), some (vI x4), none] [] h Q) (hK119 : ∀ (r0 : Nat) (r1 : Nat) (r2 : Nat) (r3 : Nat) (x4 : Int32) (x5 : Int32) (h : JH), K119 r0 r1 r2 r3 x4 x5 h → JW D (d + 1) mX8_update_2 119 [some (vR 41 r0), some (vR 47 r1), some (vR 44 r2), some (vR 86 r3), some (vI x4), some (vI x5)] [] h Q) (w : W_X8_update_2_153 D d Q K10 K119 r0 r1 r2 r3 x4 x5 q0 h) : JW D (d + 1) mX8_update_2 153 [some (vR 41 r0), some (vR 47 r1), some (vR 44 r2), some (vR 86 r3), some (vI x4), some (vI x5)] [vR 41 q0] h Q := by
  unfold W_X8_update_2_153 at w
  refine jw_iconst (pc' := 154) (x := (1 : Int32)) rfl rfl ?_
  refine jw_goto (pc' := 158) rfl rfl ?_
  exact w_X8_update_2_158 hK10 hK119 w
def W_X8_update_2_119 (D : JD) (d : Nat) (Q : JO → JH → Prop) (K10 : Nat → Nat → Nat → Nat → Int32 → JH → Prop) (K119 : Nat → Nat → Nat → Nat → Int32 → Int32 → JH → Prop) (r0 : Nat) (r1 : Nat) (r2 : Nat) (r3 : Nat) (x4 : Int32) (x5 : Int32) (h : JH) : Prop :=
  r2 ≠ 0 ∧ (((jfi h 250 r2) ≤ x5 → r0 ≠ 0 ∧ (∀ h_4 : JH, h_4 = wfi h 220 r0 ((jfi h 220 r0) + (1 : Int32)) → (W_X8_update_2_180 D d Q K10 r0 r1 r2 r3 x4 h_4))) ∧ (¬ (jfi h 250 r2) ≤ x5 → cX11_cell D d r2 x4 x5 h (pR D h 46 (fun v_8 h_6 => v_8 ≠ 0 ∧ ((¬ (jfi h_6 266 v_8) = 0 → W_X8_update_2_153 D d Q K10 K119 r0 r1 r2 r3 x4 x5 r0 h_6) ∧ ((jfi h_6 266 v_8) = 0 → (jfr h_6 253 r2) ≠ 0 ∧ jin x5 (jln h_6 (jfr h_6 253 r2)) ∧ ((¬ (jai h_6 (jfr h_6 253 r2) (ixn x5)) = 0 → W_X8_update_2_158 D d Q K10 K119 r0 r1 r2 r3 x4 x5 r0 (0 : Int32) h_6) ∧ ((jai h_6 (jfr h_6 253 r2) (ixn x5)) = 0 → W_X8_update_2_153 D d Q K10 K119 r0 r1 r2 r3 x4 x5 r0 h_6))))) (jth Q))))
theorem w_X8_update_2_119 {D : JD} {d : Nat} {Q : JO → JH → Prop} {K10 : Nat → Nat → Nat → Nat → Int32 → JH → Prop} {K119 : Nat → Nat → Nat → Nat → Int32 → Int32 → JH → Prop} {r0 : Nat} {r1 : Nat} {r2 : Nat} {r3 : Nat} {x4 : Int32} {x5 : Int32} {h : JH} (hK10 : ∀ (r0 : Nat) (r1 : Nat) (r2 : Nat) (r3 : Nat) (x4 : Int32) (h : JH), K10 r0 r1 r2 r3 x4 h → JW D (d + 1) mX8_update_2 10 [some (vR 41 r0), some (vR 47 r1), some (vR 44 r2), some (vR 86 r3), some (vI x4), none] [] h Q) (hK119 : ∀ (r0 : Nat) (r1 : Nat) (r2 : Nat) (r3 : Nat) (x4 : Int32) (x5 : Int32) (h : JH), K119 r0 r1 r2 r3 x4 x5 h → JW D (d + 1) mX8_update_2 119 [some (vR 41 r0), some (vR 47 r1), some (vR 44 r2), some (vR 86 r3), some (vI x4), some (vI x5)] [] h Q) (w : W_X8_update_2_119 D d Q K10 K119 r0 r1 r2 r3 x4 x5 h) : JW D (d + 1) mX8_update_2 119 [some (vR 41 r0), some (vR 47 r1), some (vR 44 r2), some (vR 86 r3), some (vI x4), some (vI x5)] [] h Q := by
  unfold W_X8_update_2_119 at w
  refine jw_iload (pc' := 121) rfl rfl ?_
  refine jw_aload_n (pc' := 122) rfl rfl ?_
  obtain ⟨g_1, w⟩ := w
  refine jw_getI (pc' := 125) (F := 250) rfl rfl rfl rfl g_1 ?_
  refine jw_icmp_ge (tgt := 170) (pc' := 128) rfl rfl (fun c_2 => ?_) (fun c_2 => ?_)
  · replace w := w.1 c_2
    refine jw_aload_n (pc' := 171) rfl rfl ?_
    refine jw_dup (pc' := 172) rfl rfl ?_
    obtain ⟨g_3, w⟩ := w
    refine jw_getI (pc' := 175) (F := 220) rfl rfl rfl rfl g_3 ?_
    refine jw_iconst (pc' := 176) (x := (1 : Int32)) rfl rfl ?_
    refine jw_iadd (pc' := 177) rfl ?_
    refine jw_putI' (pc' := 180) (F := 220) rfl rfl rfl (Or.inr rfl) (Or.inl rfl) rfl (rfl) (rfl) rfl g_3 (fun h_4 e_5 => ?_)
    replace w := w h_4 e_5
    refine jw_gen (ls' := [some (vR 41 r0), some (vR 47 r1), some (vR 44 r2), some (vR 86 r3), some (vI x4), none]) (st' := []) (And.intro (Or.inl rfl) (And.intro (Or.inl rfl) (And.intro (Or.inl rfl) (And.intro (Or.inl rfl) (And.intro (Or.inl rfl) (trivial)))))) (trivial) ?_
    exact w_X8_update_2_180 hK10 w
  · replace w := w.2 c_2
    refine jw_aload_n (pc' := 129) rfl rfl ?_
    refine jw_aload_n (pc' := 130) rfl rfl ?_
    refine jw_iload (pc' := 132) rfl rfl ?_
    refine jw_iload (pc' := 134) rfl rfl ?_
    refine jw_cR (st := [vR 41 r0]) (sa := [vR 44 r2, vI x4, vI x5]) okX11_cell rfl rfl rfl rfl rfl rfl (jstp_virtual (sa := [vI x4, vI x5]) (st := [vR 41 r0]) (k := 0) rfl rfl sX11_cell okX11_cell g_1 (one44.k g_1) rfl rfl) w (fun v_8 h_6 _ _ _ w => ?_)
    obtain ⟨g_9, w⟩ := w
    refine jw_getI (pc' := 140) (F := 266) rfl rfl rfl rfl g_9 ?_
    refine jw_if_ne (tgt := 153) (pc' := 143) rfl rfl (fun c_10 => ?_) (fun c_10 => ?_)
    · replace w := w.1 c_10
      exact w_X8_update_2_153 hK10 hK119 w
    · replace w := w.2 c_10
      refine jw_aload_n (pc' := 144) rfl rfl ?_
      refine jw_getR (pc' := 147) (F := 253) (t' := 190) rfl rfl rfl rfl rfl g_1 ?_
      refine jw_iload (pc' := 149) rfl rfl ?_
      obtain ⟨g_11, w⟩ := w
      obtain ⟨g_12, w⟩ := w
      refine jw_zald (pc' := 150) rfl rfl rfl rfl g_11 g_12.ix g_12.2 ?_
      refine jw_if_ne (tgt := 157) (pc' := 153) rfl rfl (fun c_13 => ?_) (fun c_13 => ?_)
      · replace w := w.1 c_13
        refine jw_iconst (pc' := 158) (x := (0 : Int32)) rfl rfl ?_
        exact w_X8_update_2_158 hK10 hK119 w
      · replace w := w.2 c_13
        exact w_X8_update_2_153 hK10 hK119 w
def L_X8_update_2_119 (D : JD) (d : Nat) (Q : JO → JH → Prop) (K10 : Nat → Nat → Nat → Nat → Int32 → JH → Prop) : Nat → Nat → Nat → Nat → Nat → Int32 → Int32 → JH → Prop
  | 0 => fun _ _ _ _ _ _ _ => False
  | n + 1 => fun r0 r1 r2 r3 x4 x5 h => W_X8_update_2_119 D d Q K10 (L_X8_update_2_119 D d Q K10 n) r0 r1 r2 r3 x4 x5 h
theorem l_X8_update_2_119 {D : JD} {d : Nat} {Q : JO → JH → Prop} {K10 : Nat → Nat → Nat → Nat → Int32 → JH → Prop} (hK10 : ∀ (r0 : Nat) (r1 : Nat) (r2 : Nat) (r3 : Nat) (x4 : Int32) (h : JH), K10 r0 r1 r2 r3 x4 h → JW D (d + 1) mX8_update_2 10 [some (vR 41 r0), some (vR 47 r1), some (vR 44 r2), some (vR 86 r3), some (vI x4), none] [] h Q) : ∀ (n : Nat) (r0 : Nat) (r1 : Nat) (r2 : Nat) (r3 : Nat) (x4 : Int32) (x5 : Int32) (h : JH), L_X8_update_2_119 D d Q K10 n r0 r1 r2 r3 x4 x5 h → JW D (d + 1) mX8_update_2 119 [some (vR 41 r0), some (vR 47 r1), some (vR 44 r2), some (vR 86 r3), some (vI x4), some (vI x5)] [] h Q := by
  intro n
  induction n with
  | zero => intro _ _ _ _ _ _ _ w; exact w.elim
  | succ n ih => intro _ _ _ _ _ _ h w; exact w_X8_update_2_119 hK10 ih w
def W_X8_update_2_77 (D : JD) (d : Nat) (Q : JO → JH → Prop) (K10 : Nat → Nat → Nat → Nat → Int32 → JH → Prop) (K77 : Nat → Nat → Nat → Nat → Int32 → Int32 → JH → Prop) (r0 : Nat) (r1 : Nat) (r2 : Nat) (r3 : Nat) (x4 : Int32) (x5 : Int32) (h : JH) : Prop :=
  r1 ≠ 0 ∧ (((jfi h 273 r1) ≤ x5 → ∃ n, L_X8_update_2_119 D d Q K10 n r0 r1 r2 r3 x4 (0 : Int32) h) ∧ (¬ (jfi h 273 r1) ≤ x5 → (jfr h 272 r1) ≠ 0 ∧ jin x5 (jln h (jfr h 272 r1)) ∧ (r2 ≠ 0 ∧ (cX11_find D d r2 (jar h (jfr h 272 r1) (ixn x5)) h (pI D h (fun v_8 h_6 => cX11_cell D d r2 x4 v_8 h_6 (pR D h_6 46 (fun v_11 h_9 => r3 ≠ 0 ∧ jin x5 (jln h_9 r3) ∧ (v_11 ≠ 0 ∧ (cX13_take D d v_11 (jar h_9 r3 (ixn x5)) h_9 (pV D h_9 (fun h_15 => K77 r0 r1 r2 r3 x4 (x5 + (1 : Int32)) h_15) (jth Q))))) (jth Q))) (jth Q))))))
theorem w_X8_update_2_77 {D : JD} {d : Nat} {Q : JO → JH → Prop} {K10 : Nat → Nat → Nat → Nat → Int32 → JH → Prop} {K77 : Nat → Nat → Nat → Nat → Int32 → Int32 → JH → Prop} {r0 : Nat} {r1 : Nat} {r2 : Nat} {r3 : Nat} {x4 : Int32} {x5 : Int32} {h : JH} (hK10 : ∀ (r0 : Nat) (r1 : Nat) (r2 : Nat) (r3 : Nat) (x4 : Int32) (h : JH), K10 r0 r1 r2 r3 x4 h → JW D (d + 1) mX8_update_2 10 [some (vR 41 r0), some (vR 47 r1), some (vR 44 r2), some (vR 86 r3), some (vI x4), none] [] h Q) (hK77 : ∀ (r0 : Nat) (r1 : Nat) (r2 : Nat) (r3 : Nat) (x4 : Int32) (x5 : Int32) (h : JH), K77 r0 r1 r2 r3 x4 x5 h → JW D (d + 1) mX8_update_2 77 [some (vR 41 r0), some (vR 47 r1), some (vR 44 r2), some (vR 86 r3), some (vI x4), some (vI x5)] [] h Q) (w : W_X8_update_2_77 D d Q K10 K77 r0 r1 r2 r3 x4 x5 h) : JW D (d + 1) mX8_update_2 77 [some (vR 41 r0), some (vR 47 r1), some (vR 44 r2), some (vR 86 r3), some (vI x4), some (vI x5)] [] h Q := by
  unfold W_X8_update_2_77 at w
  refine jw_iload (pc' := 79) rfl rfl ?_
  refine jw_aload_n (pc' := 80) rfl rfl ?_
  obtain ⟨g_1, w⟩ := w
  refine jw_getI (pc' := 83) (F := 273) rfl rfl rfl rfl g_1 ?_
  refine jw_icmp_ge (tgt := 116) (pc' := 86) rfl rfl (fun c_2 => ?_) (fun c_2 => ?_)
  · replace w := w.1 c_2
    refine jw_iconst (pc' := 117) (x := (0 : Int32)) rfl rfl ?_
    refine jw_istore (pc' := 119) (ls' := [some (vR 41 r0), some (vR 47 r1), some (vR 44 r2), some (vR 86 r3), some (vI x4), some (vI (0 : Int32))]) rfl (by decide) rfl ?_
    obtain ⟨n, w⟩ := w
    exact l_X8_update_2_119 hK10 n _ _ _ _ _ _ _ w
  · replace w := w.2 c_2
    refine jw_aload_n (pc' := 87) rfl rfl ?_
    refine jw_iload (pc' := 89) rfl rfl ?_
    refine jw_aload_n (pc' := 90) rfl rfl ?_
    refine jw_aload_n (pc' := 91) rfl rfl ?_
    refine jw_getR (pc' := 94) (F := 272) (t' := 198) rfl rfl rfl rfl rfl g_1 ?_
    refine jw_iload (pc' := 96) rfl rfl ?_
    obtain ⟨g_3, w⟩ := w
    obtain ⟨g_4, w⟩ := w
    refine jw_aald (pc' := 97) (t' := 64) rfl rfl rfl rfl g_3 g_4.ix g_4.2 ?_
    obtain ⟨g_5, w⟩ := w
    refine jw_cI (st := [vI x4, vR 44 r2]) (sa := [vR 44 r2, vR 64 (jar h (jfr h 272 r1) (ixn x5))]) okX11_find rfl rfl rfl rfl rfl rfl (jstp_virtual (sa := [vR 64 (jar h (jfr h 272 r1) (ixn x5))]) (st := [vI x4, vR 44 r2]) (k := 0) rfl rfl sX11_find okX11_find g_5 (one44.k g_5) rfl rfl) w (fun v_8 h_6 _ _ w => ?_)
    refine jw_cR (st := []) (sa := [vR 44 r2, vI x4, vI v_8]) okX11_cell rfl rfl rfl rfl rfl rfl (jstp_virtual (sa := [vI x4, vI v_8]) (st := []) (k := 0) rfl rfl sX11_cell okX11_cell g_5 (one44.k g_5) rfl rfl) w (fun v_11 h_9 _ _ _ w => ?_)
    refine jw_aload_n (pc' := 104) rfl rfl ?_
    refine jw_iload (pc' := 106) rfl rfl ?_
    obtain ⟨g_12, w⟩ := w
    obtain ⟨g_13, w⟩ := w
    refine jw_aald (pc' := 107) (t' := 46) rfl rfl rfl rfl g_12 g_13.ix g_13.2 ?_
    obtain ⟨g_14, w⟩ := w
    refine jw_cV (st := []) (sa := [vR 46 v_11, vR 46 (jar h_9 r3 (ixn x5))]) okX13_take rfl rfl rfl rfl rfl rfl (jstp_virtual (sa := [vR 46 (jar h_9 r3 (ixn x5))]) (st := []) (k := 0) rfl rfl sX13_take okX13_take g_14 (one46.k g_14) rfl rfl) w (fun h_15 _ _ w => ?_)
    refine jw_iinc (pc' := 113) (y := x5 + (1 : Int32)) (ls' := [some (vR 41 r0), some (vR 47 r1), some (vR 44 r2), some (vR 86 r3), some (vI x4), some (vI (x5 + (1 : Int32)))]) rfl (by decide) rfl rfl rfl ?_
    refine jw_goto (pc' := 77) rfl rfl ?_
    exact hK77 _ _ _ _ _ _ _ w
def L_X8_update_2_77 (D : JD) (d : Nat) (Q : JO → JH → Prop) (K10 : Nat → Nat → Nat → Nat → Int32 → JH → Prop) : Nat → Nat → Nat → Nat → Nat → Int32 → Int32 → JH → Prop
  | 0 => fun _ _ _ _ _ _ _ => False
  | n + 1 => fun r0 r1 r2 r3 x4 x5 h => W_X8_update_2_77 D d Q K10 (L_X8_update_2_77 D d Q K10 n) r0 r1 r2 r3 x4 x5 h
theorem l_X8_update_2_77 {D : JD} {d : Nat} {Q : JO → JH → Prop} {K10 : Nat → Nat → Nat → Nat → Int32 → JH → Prop} (hK10 : ∀ (r0 : Nat) (r1 : Nat) (r2 : Nat) (r3 : Nat) (x4 : Int32) (h : JH), K10 r0 r1 r2 r3 x4 h → JW D (d + 1) mX8_update_2 10 [some (vR 41 r0), some (vR 47 r1), some (vR 44 r2), some (vR 86 r3), some (vI x4), none] [] h Q) : ∀ (n : Nat) (r0 : Nat) (r1 : Nat) (r2 : Nat) (r3 : Nat) (x4 : Int32) (x5 : Int32) (h : JH), L_X8_update_2_77 D d Q K10 n r0 r1 r2 r3 x4 x5 h → JW D (d + 1) mX8_update_2 77 [some (vR 41 r0), some (vR 47 r1), some (vR 44 r2), some (vR 86 r3), some (vI x4), some (vI x5)] [] h Q := by
  intro n
  induction n with
  | zero => intro _ _ _ _ _ _ _ w; exact w.elim
  | succ n ih => intro _ _ _ _ _ _ h w; exact w_X8_update_2_77 hK10 ih w
def W_X8_update_2_40 (D : JD) (d : Nat) (Q : JO → JH → Prop) (K10 : Nat → Nat → Nat → Nat → Int32 → JH → Prop) (K40 : Nat → Nat → Nat → Nat → Int32 → Int32 → JH → Prop) (r0 : Nat) (r1 : Nat) (r2 : Nat) (r3 : Nat) (x4 : Int32) (x5 : Int32) (h : JH) : Prop :=
  r1 ≠ 0 ∧ (((jfi h 273 r1) ≤ x5 → ∃ n, L_X8_update_2_77 D d Q K10 n r0 r1 r2 r3 x4 (0 : Int32) h) ∧ (¬ (jfi h 273 r1) ≤ x5 → (jfr h 278 r1) ≠ 0 ∧ jin x5 (jln h (jfr h 278 r1)) ∧ (r0 ≠ 0 ∧ (cX8_eval D d r0 (jar h (jfr h 278 r1) (ixn x5)) h (pR D h 46 (fun v_8 h_6 => cX8_copy D d r0 v_8 h_6 (pR D h_6 46 (fun v_11 h_9 => r3 ≠ 0 ∧ jin x5 (jln h_9 r3) ∧ ∀ h_14 : JH, h_14 = war h_9 r3 (ixn x5) v_11 → (K40 r0 r1 r2 r3 x4 (x5 + (1 : Int32)) h_14)) (jth Q))) (jth Q))))))
theorem w_X8_update_2_40 {D : JD} {d : Nat} {Q : JO → JH → Prop} {K10 : Nat → Nat → Nat → Nat → Int32 → JH → Prop} {K40 : Nat → Nat → Nat → Nat → Int32 → Int32 → JH → Prop} {r0 : Nat} {r1 : Nat} {r2 : Nat} {r3 : Nat} {x4 : Int32} {x5 : Int32} {h : JH} (hK10 : ∀ (r0 : Nat) (r1 : Nat) (r2 : Nat) (r3 : Nat) (x4 : Int32) (h : JH), K10 r0 r1 r2 r3 x4 h → JW D (d + 1) mX8_update_2 10 [some (vR 41 r0), some (vR 47 r1), some (vR 44 r2), some (vR 86 r3), some (vI x4), none] [] h Q) (hK40 : ∀ (r0 : Nat) (r1 : Nat) (r2 : Nat) (r3 : Nat) (x4 : Int32) (x5 : Int32) (h : JH), K40 r0 r1 r2 r3 x4 x5 h → JW D (d + 1) mX8_update_2 40 [some (vR 41 r0), some (vR 47 r1), some (vR 44 r2), some (vR 86 r3), some (vI x4), some (vI x5)] [] h Q) (w : W_X8_update_2_40 D d Q K10 K40 r0 r1 r2 r3 x4 x5 h) : JW D (d + 1) mX8_update_2 40 [some (vR 41 r0), some (vR 47 r1), some (vR 44 r2), some (vR 86 r3), some (vI x4), some (vI x5)] [] h Q := by
  unfold W_X8_update_2_40 at w
  refine jw_iload (pc' := 42) rfl rfl ?_
  refine jw_aload_n (pc' := 43) rfl rfl ?_
  obtain ⟨g_1, w⟩ := w
  refine jw_getI (pc' := 46) (F := 273) rfl rfl rfl rfl g_1 ?_
  refine jw_icmp_ge (tgt := 74) (pc' := 49) rfl rfl (fun c_2 => ?_) (fun c_2 => ?_)
  · replace w := w.1 c_2
    refine jw_iconst (pc' := 75) (x := (0 : Int32)) rfl rfl ?_
    refine jw_istore (pc' := 77) (ls' := [some (vR 41 r0), some (vR 47 r1), some (vR 44 r2), some (vR 86 r3), some (vI x4), some (vI (0 : Int32))]) rfl (by decide) rfl ?_
    obtain ⟨n, w⟩ := w
    exact l_X8_update_2_77 hK10 n _ _ _ _ _ _ _ w
  · replace w := w.2 c_2
    refine jw_aload_n (pc' := 50) rfl rfl ?_
    refine jw_iload (pc' := 52) rfl rfl ?_
    refine jw_aload_n (pc' := 53) rfl rfl ?_
    refine jw_aload_n (pc' := 54) rfl rfl ?_
    refine jw_aload_n (pc' := 55) rfl rfl ?_
    refine jw_getR (pc' := 58) (F := 278) (t' := 202) rfl rfl rfl rfl rfl g_1 ?_
    refine jw_iload (pc' := 60) rfl rfl ?_
    obtain ⟨g_3, w⟩ := w
    obtain ⟨g_4, w⟩ := w
    refine jw_aald (pc' := 61) (t' := 48) rfl rfl rfl rfl g_3 g_4.ix g_4.2 ?_
    obtain ⟨g_5, w⟩ := w
    refine jw_cR (st := [vR 41 r0, vI x5, vR 86 r3]) (sa := [vR 41 r0, vR 48 (jar h (jfr h 278 r1) (ixn x5))]) okX8_eval rfl rfl rfl rfl rfl rfl (jstp_virtual (sa := [vR 48 (jar h (jfr h 278 r1) (ixn x5))]) (st := [vR 41 r0, vI x5, vR 86 r3]) (k := 0) rfl rfl sX8_eval okX8_eval g_5 (one41.k g_5) rfl rfl) w (fun v_8 h_6 _ _ _ w => ?_)
    refine jw_cR (st := [vI x5, vR 86 r3]) (sa := [vR 41 r0, vR 46 v_8]) okX8_copy rfl rfl rfl rfl rfl rfl (jstp_virtual (sa := [vR 46 v_8]) (st := [vI x5, vR 86 r3]) (k := 0) rfl rfl sX8_copy okX8_copy g_5 (one41.k g_5) rfl rfl) w (fun v_11 h_9 _ _ _ w => ?_)
    obtain ⟨g_12, w⟩ := w
    obtain ⟨g_13, w⟩ := w
    refine jw_aast' (pc' := 68) rfl rfl rfl rfl rfl rfl g_12 g_13 (fun h_14 e_15 => ?_)
    replace w := w h_14 e_15
    refine jw_iinc (pc' := 71) (y := x5 + (1 : Int32)) (ls' := [some (vR 41 r0), some (vR 47 r1), some (vR 44 r2), some (vR 86 r3), some (vI x4), some (vI (x5 + (1 : Int32)))]) rfl (by decide) rfl rfl rfl ?_
    refine jw_goto (pc' := 40) rfl rfl ?_
    exact hK40 _ _ _ _ _ _ _ w
def L_X8_update_2_40 (D : JD) (d : Nat) (Q : JO → JH → Prop) (K10 : Nat → Nat → Nat → Nat → Int32 → JH → Prop) : Nat → Nat → Nat → Nat → Nat → Int32 → Int32 → JH → Prop
  | 0 => fun _ _ _ _ _ _ _ => False
  | n + 1 => fun r0 r1 r2 r3 x4 x5 h => W_X8_update_2_40 D d Q K10 (L_X8_update_2_40 D d Q K10 n) r0 r1 r2 r3 x4 x5 h
theorem l_X8_update_2_40 {D : JD} {d : Nat} {Q : JO → JH → Prop} {K10 : Nat → Nat → Nat → Nat → Int32 → JH → Prop} (hK10 : ∀ (r0 : Nat) (r1 : Nat) (r2 : Nat) (r3 : Nat) (x4 : Int32) (h : JH), K10 r0 r1 r2 r3 x4 h → JW D (d + 1) mX8_update_2 10 [some (vR 41 r0), some (vR 47 r1), some (vR 44 r2), some (vR 86 r3), some (vI x4), none] [] h Q) : ∀ (n : Nat) (r0 : Nat) (r1 : Nat) (r2 : Nat) (r3 : Nat) (x4 : Int32) (x5 : Int32) (h : JH), L_X8_update_2_40 D d Q K10 n r0 r1 r2 r3 x4 x5 h → JW D (d + 1) mX8_update_2 40 [some (vR 41 r0), some (vR 47 r1), some (vR 44 r2), some (vR 86 r3), some (vI x4), some (vI x5)] [] h Q := by
  intro n
  induction n with
  | zero => intro _ _ _ _ _ _ _ w; exact w.elim
  | succ n ih => intro _ _ _ _ _ _ h w; exact w_X8_update_2_40 hK10 ih w
def W_X8_update_2_10 (D : JD) (d : Nat) (Q : JO → JH → Prop) (K10 : Nat → Nat → Nat → Nat → Int32 → JH → Prop) (r0 : Nat) (r1 : Nat) (r2 : Nat) (r3 : Nat) (x4 : Int32) (h : JH) : Prop :=
  r2 ≠ 0 ∧ (((jfi h 255 r2) ≤ x4 → r0 ≠ 0 ∧ (cX8_different D d r0 r2 h (pV D h (fun h_4 => Q (.inl none) h_4) (jth Q)))) ∧ (¬ (jfi h 255 r2) ≤ x4 → r0 ≠ 0 ∧ ∀ h_8 : JH, h_8 = wfi h 177 r0 (0 : Int32) → (cX8_holds D d r0 r1 x4 h_8 (pI D h_8 (fun v_12 h_10 => (¬ v_12 = 0 → ∃ n, L_X8_update_2_40 D d Q K10 n r0 r1 r2 r3 x4 (0 : Int32) h_10) ∧ (v_12 = 0 → W_X8_update_2_180 D d Q K10 r0 r1 r2 r3 x4 h_10)) (jth Q)))))
theorem w_X8_update_2_10 {D : JD} {d : Nat} {Q : JO → JH → Prop} {K10 : Nat → Nat → Nat → Nat → Int32 → JH → Prop} {r0 : Nat} {r1 : Nat} {r2 : Nat} {r3 : Nat} {x4 : Int32} {h : JH} (hK10 : ∀ (r0 : Nat) (r1 : Nat) (r2 : Nat) (r3 : Nat) (x4 : Int32) (h : JH), K10 r0 r1 r2 r3 x4 h → JW D (d + 1) mX8_update_2 10 [some (vR 41 r0), some (vR 47 r1), some (vR 44 r2), some (vR 86 r3), some (vI x4), none] [] h Q) (w : W_X8_update_2_10 D d Q K10 r0 r1 r2 r3 x4 h) : JW D (d + 1) mX8_update_2 10 [some (vR 41 r0), some (vR 47 r1), some (vR 44 r2), some (vR 86 r3), some (vI x4), none] [] h Q := by
  unfold W_X8_update_2_10 at w
  refine jw_iload (pc' := 12) rfl rfl ?_
  refine jw_aload_n (pc' := 13) rfl rfl ?_
  obtain ⟨g_1, w⟩ := w
  refine jw_getI (pc' := 16) (F := 255) rfl rfl rfl rfl g_1 ?_
  refine jw_icmp_ge (tgt := 186) (pc' := 19) rfl rfl (fun c_2 => ?_) (fun c_2 => ?_)
  · replace w := w.1 c_2
    refine jw_aload_n (pc' := 187) rfl rfl ?_
    refine jw_aload_n (pc' := 188) rfl rfl ?_
    obtain ⟨g_3, w⟩ := w
    refine jw_cV (st := []) (sa := [vR 41 r0, vR 44 r2]) okX8_different rfl rfl rfl rfl rfl rfl (jstp_virtual (sa := [vR 44 r2]) (st := []) (k := 0) rfl rfl sX8_different okX8_different g_3 (one41.k g_3) rfl rfl) w (fun h_4 _ _ w => ?_)
    exact jw_return rfl rfl w
  · replace w := w.2 c_2
    refine jw_aload_n (pc' := 20) rfl rfl ?_
    refine jw_iconst (pc' := 21) (x := (0 : Int32)) rfl rfl ?_
    obtain ⟨g_7, w⟩ := w
    refine jw_putI' (pc' := 24) (F := 177) rfl rfl rfl (Or.inr rfl) (Or.inl rfl) rfl (rfl) (rfl) rfl g_7 (fun h_8 e_9 => ?_)
    replace w := w h_8 e_9
    refine jw_aload_n (pc' := 25) rfl rfl ?_
    refine jw_aload_n (pc' := 26) rfl rfl ?_
    refine jw_iload (pc' := 28) rfl rfl ?_
    refine jw_cI (st := []) (sa := [vR 41 r0, vR 47 r1, vI x4]) okX8_holds rfl rfl rfl rfl rfl rfl (jstp_virtual (sa := [vR 47 r1, vI x4]) (st := []) (k := 0) rfl rfl sX8_holds okX8_holds g_7 (one41.k g_7) rfl rfl) w (fun v_12 h_10 _ _ w => ?_)
    refine jw_if_ne (tgt := 37) (pc' := 34) rfl rfl (fun c_13 => ?_) (fun c_13 => ?_)
    · replace w := w.1 c_13
      refine jw_iconst (pc' := 38) (x := (0 : Int32)) rfl rfl ?_
      refine jw_istore (pc' := 40) (ls' := [some (vR 41 r0), some (vR 47 r1), some (vR 44 r2), some (vR 86 r3), some (vI x4), some (vI (0 : Int32))]) rfl (by decide) rfl ?_
      obtain ⟨n, w⟩ := w
      exact l_X8_update_2_40 hK10 n _ _ _ _ _ _ _ w
    · replace w := w.2 c_13
      refine jw_goto (pc' := 180) rfl rfl ?_
      exact w_X8_update_2_180 hK10 w
def L_X8_update_2_10 (D : JD) (d : Nat) (Q : JO → JH → Prop) : Nat → Nat → Nat → Nat → Nat → Int32 → JH → Prop
  | 0 => fun _ _ _ _ _ _ => False
  | n + 1 => fun r0 r1 r2 r3 x4 h => W_X8_update_2_10 D d Q (L_X8_update_2_10 D d Q n) r0 r1 r2 r3 x4 h
theorem l_X8_update_2_10 {D : JD} {d : Nat} {Q : JO → JH → Prop} : ∀ (n : Nat) (r0 : Nat) (r1 : Nat) (r2 : Nat) (r3 : Nat) (x4 : Int32) (h : JH), L_X8_update_2_10 D d Q n r0 r1 r2 r3 x4 h → JW D (d + 1) mX8_update_2 10 [some (vR 41 r0), some (vR 47 r1), some (vR 44 r2), some (vR 86 r3), some (vI x4), none] [] h Q := by
  intro n
  induction n with
  | zero => intro _ _ _ _ _ _ w; exact w.elim
  | succ n ih => intro _ _ _ _ _ h w; exact w_X8_update_2_10 ih w
def W_X8_update_2_0 (D : JD) (d : Nat) (Q : JO → JH → Prop) (r0 : Nat) (r1 : Nat) (r2 : Nat) (h : JH) : Prop :=
  r0 ≠ 0 ∧ ((jfr h 221 r0) ≠ 0 ∧ jin (0 : Int32) (jln h (jfr h 221 r0)) ∧ (∃ n, L_X8_update_2_10 D d Q n r0 r1 r2 (jar h (jfr h 221 r0) (ixn (0 : Int32))) (0 : Int32) h))
theorem w_X8_update_2_0 {D : JD} {d : Nat} {Q : JO → JH → Prop} {r0 : Nat} {r1 : Nat} {r2 : Nat} {h : JH} (w : W_X8_update_2_0 D d Q r0 r1 r2 h) : JW D (d + 1) mX8_update_2 0 [some (vR 41 r0), some (vR 47 r1), some (vR 44 r2), none, none, none] [] h Q := by
  unfold W_X8_update_2_0 at w
  refine jw_aload_n (pc' := 1) rfl rfl ?_
  obtain ⟨g_1, w⟩ := w
  refine jw_getR (pc' := 4) (F := 221) (t' := 94) rfl rfl rfl rfl rfl g_1 ?_
  refine jw_iconst (pc' := 5) (x := (0 : Int32)) rfl rfl ?_
  obtain ⟨g_2, w⟩ := w
  obtain ⟨g_3, w⟩ := w
  refine jw_aald (pc' := 6) (t' := 86) rfl rfl rfl rfl g_2 g_3.ix g_3.2 ?_
  refine jw_astore_n (pc' := 7) (ls' := [some (vR 41 r0), some (vR 47 r1), some (vR 44 r2), some (vR 86 (jar h (jfr h 221 r0) (ixn (0 : Int32)))), none, none]) rfl (by decide) rfl ?_
  refine jw_iconst (pc' := 8) (x := (0 : Int32)) rfl rfl ?_
  refine jw_istore (pc' := 10) (ls' := [some (vR 41 r0), some (vR 47 r1), some (vR 44 r2), some (vR 86 (jar h (jfr h 221 r0) (ixn (0 : Int32)))), some (vI (0 : Int32)), none]) rfl (by decide) rfl ?_
  obtain ⟨n, w⟩ := w
  exact l_X8_update_2_10 n _ _ _ _ _ _ w
def T_X8_update_2 (D : JD) (d : Nat) (Q : JO → JH → Prop) (r0 : Nat) (r1 : Nat) (r2 : Nat) (h : JH) : Prop := W_X8_update_2_0 D d Q r0 r1 r2 h
theorem t_X8_update_2 {D : JD} {d : Nat} {Q : JO → JH → Prop} {r0 : Nat} {r1 : Nat} {r2 : Nat} {h : JH} (w : T_X8_update_2 D d Q r0 r1 r2 h) : cX8_update_2 D (d + 1) r0 r1 r2 h Q := by
  unfold T_X8_update_2 at w
  unfold cX8_update_2
  exact w_X8_update_2_0 w
def W_X8_holds_33 (D : JD) (d : Nat) (Q : JO → JH → Prop) (s0 : Int32) (h : JH) : Prop :=
  jbo s0 ∧ (Q (.inl (some (vI s0))) h)
theorem w_X8_holds_33 {D : JD} {d : Nat} {Q : JO → JH → Prop} {s0 : Int32} {h : JH} (w : W_X8_holds_33 D d Q s0 h) : JW D (d + 1) mX8_holds 33 [none, none, none] [vI s0] h Q := by
  unfold W_X8_holds_33 at w
  obtain ⟨g_1, w⟩ := w
  exact jw_ireturn rfl rfl (g_1.nr) w
def W_X8_holds_28 (D : JD) (d : Nat) (Q : JO → JH → Prop) (h : JH) : Prop :=
  W_X8_holds_33 D d Q (1 : Int32) h
theorem w_X8_holds_28 {D : JD} {d : Nat} {Q : JO → JH → Prop} {h : JH} (w : W_X8_holds_28 D d Q h) : JW D (d + 1) mX8_holds 28 [none, none, none] [] h Q := by
  unfold W_X8_holds_28 at w
  refine jw_iconst (pc' := 29) (x := (1 : Int32)) rfl rfl ?_
  refine jw_goto (pc' := 33) rfl rfl ?_
  exact w_X8_holds_33 w
def W_X8_holds_0 (D : JD) (d : Nat) (Q : JO → JH → Prop) (r0 : Nat) (r1 : Nat) (x2 : Int32) (h : JH) : Prop :=
  r0 ≠ 0 ∧ ((jfr h 204 r0) ≠ 0 ∧ jin (0 : Int32) (jln h (jfr h 204 r0)) ∧ ∀ h_4 : JH, h_4 = wai h (jfr h 204 r0) (ixn (0 : Int32)) x2 → (r1 ≠ 0 ∧ (((jfr h_4 282 r1) = 0 → W_X8_holds_28 D d Q h_4) ∧ ((jfr h_4 282 r1) ≠ 0 → cX8_eval D d r0 (jfr h_4 282 r1) h_4 (pR D h_4 46 (fun v_10 h_8 => cX8_isTrue D d v_10 h_8 (pI D h_8 (fun v_13 h_11 => (v_13 = 0 → W_X8_holds_33 D d Q (0 : Int32) h_11) ∧ (¬ v_13 = 0 → W_X8_holds_28 D d Q h_11)) (jth Q))) (jth Q))))))
theorem w_X8_holds_0 {D : JD} {d : Nat} {Q : JO → JH → Prop} {r0 : Nat} {r1 : Nat} {x2 : Int32} {h : JH} (w : W_X8_holds_0 D d Q r0 r1 x2 h) : JW D (d + 1) mX8_holds 0 [some (vR 41 r0), some (vR 47 r1), some (vI x2)] [] h Q := by
  unfold W_X8_holds_0 at w
  refine jw_aload_n (pc' := 1) rfl rfl ?_
  obtain ⟨g_1, w⟩ := w
  refine jw_getR (pc' := 4) (F := 204) (t' := 168) rfl rfl rfl rfl rfl g_1 ?_
  refine jw_iconst (pc' := 5) (x := (0 : Int32)) rfl rfl ?_
  refine jw_iload_n (pc' := 6) rfl rfl ?_
  obtain ⟨g_2, w⟩ := w
  obtain ⟨g_3, w⟩ := w
  refine jw_iast' (pc' := 7) rfl rfl rfl rfl rfl g_2 g_3 (fun h_4 e_5 => ?_)
  replace w := w h_4 e_5
  refine jw_aload_n (pc' := 8) rfl rfl ?_
  obtain ⟨g_6, w⟩ := w
  refine jw_getR (pc' := 11) (F := 282) (t' := 48) rfl rfl rfl rfl rfl g_6 ?_
  refine jw_ifnull (tgt := 28) (pc' := 14) rfl rfl (fun c_7 => ?_) (fun c_7 => ?_)
  · replace w := w.1 c_7
    refine jw_gen (ls' := [none, none, none]) (st' := []) (trivial) (trivial) ?_
    exact w_X8_holds_28 w
  · replace w := w.2 c_7
    refine jw_aload_n (pc' := 15) rfl rfl ?_
    refine jw_aload_n (pc' := 16) rfl rfl ?_
    refine jw_getR (pc' := 19) (F := 282) (t' := 48) rfl rfl rfl rfl rfl g_6 ?_
    refine jw_cR (st := []) (sa := [vR 41 r0, vR 48 (jfr h_4 282 r1)]) okX8_eval rfl rfl rfl rfl rfl rfl (jstp_virtual (sa := [vR 48 (jfr h_4 282 r1)]) (st := []) (k := 0) rfl rfl sX8_eval okX8_eval g_1 (one41.k g_1) rfl rfl) w (fun v_10 h_8 _ _ _ w => ?_)
    refine jw_cI (st := []) (sa := [vR 46 v_10]) okX8_isTrue rfl rfl rfl rfl rfl rfl (jstp_static (sa := [vR 46 v_10]) (st := []) rfl rfl sX8_isTrue okX8_isTrue rfl rfl) w (fun v_13 h_11 _ _ w => ?_)
    refine jw_if_eq (tgt := 32) (pc' := 28) rfl rfl (fun c_14 => ?_) (fun c_14 => ?_)
    · replace w := w.1 c_14
      refine jw_iconst (pc' := 33) (x := (0 : Int32)) rfl rfl ?_
      refine jw_gen (ls' := [none, none, none]) (st' := [vI (0 : Int32)]) (trivial) (And.intro (Or.inl rfl) (trivial)) ?_
      exact w_X8_holds_33 w
    · replace w := w.2 c_14
      refine jw_gen (ls' := [none, none, none]) (st' := []) (trivial) (trivial) ?_
      exact w_X8_holds_28 w
def T_X8_holds (D : JD) (d : Nat) (Q : JO → JH → Prop) (r0 : Nat) (r1 : Nat) (x2 : Int32) (h : JH) : Prop := W_X8_holds_0 D d Q r0 r1 x2 h
theorem t_X8_holds {D : JD} {d : Nat} {Q : JO → JH → Prop} {r0 : Nat} {r1 : Nat} {x2 : Int32} {h : JH} (w : T_X8_holds D d Q r0 r1 x2 h) : cX8_holds D (d + 1) r0 r1 x2 h Q := by
  unfold T_X8_holds at w
  unfold cX8_holds
  exact w_X8_holds_0 w
def W_X8_delete_121 (D : JD) (d : Nat) (Q : JO → JH → Prop) (K45 : Nat → Nat → Nat → Int32 → Int32 → JH → Prop) (r0 : Nat) (r2 : Nat) (r3 : Nat) (x4 : Int32) (x5 : Int32) (h : JH) : Prop :=
  K45 r0 r2 r3 x4 (x5 + (1 : Int32)) h
theorem w_X8_delete_121 {D : JD} {d : Nat} {Q : JO → JH → Prop} {K45 : Nat → Nat → Nat → Int32 → Int32 → JH → Prop} {r0 : Nat} {r2 : Nat} {r3 : Nat} {x4 : Int32} {x5 : Int32} {h : JH} (hK45 : ∀ (r0 : Nat) (r2 : Nat) (r3 : Nat) (x4 : Int32) (x5 : Int32) (h : JH), K45 r0 r2 r3 x4 x5 h → JW D (d + 1) mX8_delete 45 [some (vR 41 r0), none, some (vR 44 r2), some (vR 177 r3), some (vI x4), some (vI x5), none] [] h Q) (w : W_X8_delete_121 D d Q K45 r0 r2 r3 x4 x5 h) : JW D (d + 1) mX8_delete 121 [some (vR 41 r0), none, some (vR 44 r2), some (vR 177 r3), some (vI x4), some (vI x5), none] [] h Q := by
  unfold W_X8_delete_121 at w
  refine jw_iinc (pc' := 124) (y := x5 + (1 : Int32)) (ls' := [some (vR 41 r0), none, some (vR 44 r2), some (vR 177 r3), some (vI x4), some (vI (x5 + (1 : Int32))), none]) rfl (by decide) rfl rfl rfl ?_
  refine jw_goto (pc' := 45) rfl rfl ?_
  exact hK45 _ _ _ _ _ _ w
def W_X8_delete_118 (D : JD) (d : Nat) (Q : JO → JH → Prop) (K45 : Nat → Nat → Nat → Int32 → Int32 → JH → Prop) (r0 : Nat) (r2 : Nat) (r3 : Nat) (x4 : Int32) (x5 : Int32) (h : JH) : Prop :=
  W_X8_delete_121 D d Q K45 r0 r2 r3 (x4 + (1 : Int32)) x5 h
theorem w_X8_delete_118 {D : JD} {d : Nat} {Q : JO → JH → Prop} {K45 : Nat → Nat → Nat → Int32 → Int32 → JH → Prop} {r0 : Nat} {r2 : Nat} {r3 : Nat} {x4 : Int32} {x5 : Int32} {h : JH} (hK45 : ∀ (r0 : Nat) (r2 : Nat) (r3 : Nat) (x4 : Int32) (x5 : Int32) (h : JH), K45 r0 r2 r3 x4 x5 h → JW D (d + 1) mX8_delete 45 [some (vR 41 r0), none, some (vR 44 r2), some (vR 177 r3), some (vI x4), some (vI x5), none] [] h Q) (w : W_X8_delete_118 D d Q K45 r0 r2 r3 x4 x5 h) : JW D (d + 1) mX8_delete 118 [some (vR 41 r0), none, some (vR 44 r2), some (vR 177 r3), some (vI x4), some (vI x5), none] [] h Q := by
  unfold W_X8_delete_118 at w
  refine jw_iinc (pc' := 121) (y := x4 + (1 : Int32)) (ls' := [some (vR 41 r0), none, some (vR 44 r2), some (vR 177 r3), some (vI (x4 + (1 : Int32))), some (vI x5), none]) rfl (by decide) rfl rfl rfl ?_
  exact w_X8_delete_121 hK45 w
def W_X8_delete_84 (D : JD) (d : Nat) (Q : JO → JH → Prop) (K45 : Nat → Nat → Nat → Int32 → Int32 → JH → Prop) (K84 : Nat → Nat → Nat → Int32 → Int32 → Int32 → JH → Prop) (r0 : Nat) (r2 : Nat) (r3 : Nat) (x4 : Int32) (x5 : Int32) (x6 : Int32) (h : JH) : Prop :=
  r2 ≠ 0 ∧ (((jfi h 250 r2) ≤ x6 → W_X8_delete_118 D d Q K45 r0 r2 r3 x4 x5 h) ∧ (¬ (jfi h 250 r2) ≤ x6 → cX11_cell D d r2 x4 x6 h (pR D h 46 (fun v_5 h_3 => cX11_cell D d r2 x5 x6 h_3 (pR D h_3 46 (fun v_8 h_6 => v_5 ≠ 0 ∧ (cX13_take D d v_5 v_8 h_6 (pV D h_6 (fun h_10 => K84 r0 r2 r3 x4 x5 (x6 + (1 : Int32)) h_10) (jth Q)))) (jth Q))) (jth Q))))
theorem w_X8_delete_84 {D : JD} {d : Nat} {Q : JO → JH → Prop} {K45 : Nat → Nat → Nat → Int32 → Int32 → JH → Prop} {K84 : Nat → Nat → Nat → Int32 → Int32 → Int32 → JH → Prop} {r0 : Nat} {r2 : Nat} {r3 : Nat} {x4 : Int32} {x5 : Int32} {x6 : Int32} {h : JH} (hK45 : ∀ (r0 : Nat) (r2 : Nat) (r3 : Nat) (x4 : Int32) (x5 : Int32) (h : JH), K45 r0 r2 r3 x4 x5 h → JW D (d + 1) mX8_delete 45 [some (vR 41 r0), none, some (vR 44 r2), some (vR 177 r3), some (vI x4), some (vI x5), none] [] h Q) (hK84 : ∀ (r0 : Nat) (r2 : Nat) (r3 : Nat) (x4 : Int32) (x5 : Int32) (x6 : Int32) (h : JH), K84 r0 r2 r3 x4 x5 x6 h → JW D (d + 1) mX8_delete 84 [some (vR 41 r0), none, some (vR 44 r2), some (vR 177 r3), some (vI x4), some (vI x5), some (vI x6)] [] h Q) (w : W_X8_delete_84 D d Q K45 K84 r0 r2 r3 x4 x5 x6 h) : JW D (d + 1) mX8_delete 84 [some (vR 41 r0), none, some (vR 44 r2), some (vR 177 r3), some (vI x4), some (vI x5), some (vI x6)] [] h Q := by
  unfold W_X8_delete_84 at w
  refine jw_iload (pc' := 86) rfl rfl ?_
  refine jw_aload_n (pc' := 87) rfl rfl ?_
  obtain ⟨g_1, w⟩ := w
  refine jw_getI (pc' := 90) (F := 250) rfl rfl rfl rfl g_1 ?_
  refine jw_icmp_ge (tgt := 118) (pc' := 93) rfl rfl (fun c_2 => ?_) (fun c_2 => ?_)
  · replace w := w.1 c_2
    refine jw_gen (ls' := [some (vR 41 r0), none, some (vR 44 r2), some (vR 177 r3), some (vI x4), some (vI x5), none]) (st' := []) (And.intro (Or.inl rfl) (And.intro (Or.inl rfl) (And.intro (Or.inl rfl) (And.intro (Or.inl rfl) (And.intro (Or.inl rfl) (trivial)))))) (trivial) ?_
    exact w_X8_delete_118 hK45 w
  · replace w := w.2 c_2
    refine jw_aload_n (pc' := 94) rfl rfl ?_
    refine jw_iload (pc' := 96) rfl rfl ?_
    refine jw_iload (pc' := 98) rfl rfl ?_
    refine jw_cR (st := []) (sa := [vR 44 r2, vI x4, vI x6]) okX11_cell rfl rfl rfl rfl rfl rfl (jstp_virtual (sa := [vI x4, vI x6]) (st := []) (k := 0) rfl rfl sX11_cell okX11_cell g_1 (one44.k g_1) rfl rfl) w (fun v_5 h_3 _ _ _ w => ?_)
    refine jw_aload_n (pc' := 102) rfl rfl ?_
    refine jw_iload (pc' := 104) rfl rfl ?_
    refine jw_iload (pc' := 106) rfl rfl ?_
    refine jw_cR (st := [vR 46 v_5]) (sa := [vR 44 r2, vI x5, vI x6]) okX11_cell rfl rfl rfl rfl rfl rfl (jstp_virtual (sa := [vI x5, vI x6]) (st := [vR 46 v_5]) (k := 0) rfl rfl sX11_cell okX11_cell g_1 (one44.k g_1) rfl rfl) w (fun v_8 h_6 _ _ _ w => ?_)
    obtain ⟨g_9, w⟩ := w
    refine jw_cV (st := []) (sa := [vR 46 v_5, vR 46 v_8]) okX13_take rfl rfl rfl rfl rfl rfl (jstp_virtual (sa := [vR 46 v_8]) (st := []) (k := 0) rfl rfl sX13_take okX13_take g_9 (one46.k g_9) rfl rfl) w (fun h_10 _ _ w => ?_)
    refine jw_iinc (pc' := 115) (y := x6 + (1 : Int32)) (ls' := [some (vR 41 r0), none, some (vR 44 r2), some (vR 177 r3), some (vI x4), some (vI x5), some (vI (x6 + (1 : Int32)))]) rfl (by decide) rfl rfl rfl ?_
    refine jw_goto (pc' := 84) rfl rfl ?_
    exact hK84 _ _ _ _ _ _ _ w
def L_X8_delete_84 (D : JD) (d : Nat) (Q : JO → JH → Prop) (K45 : Nat → Nat → Nat → Int32 → Int32 → JH → Prop) : Nat → Nat → Nat → Nat → Int32 → Int32 → Int32 → JH → Prop
  | 0 => fun _ _ _ _ _ _ _ => False
  | n + 1 => fun r0 r2 r3 x4 x5 x6 h => W_X8_delete_84 D d Q K45 (L_X8_delete_84 D d Q K45 n) r0 r2 r3 x4 x5 x6 h
theorem l_X8_delete_84 {D : JD} {d : Nat} {Q : JO → JH → Prop} {K45 : Nat → Nat → Nat → Int32 → Int32 → JH → Prop} (hK45 : ∀ (r0 : Nat) (r2 : Nat) (r3 : Nat) (x4 : Int32) (x5 : Int32) (h : JH), K45 r0 r2 r3 x4 x5 h → JW D (d + 1) mX8_delete 45 [some (vR 41 r0), none, some (vR 44 r2), some (vR 177 r3), some (vI x4), some (vI x5), none] [] h Q) : ∀ (n : Nat) (r0 : Nat) (r2 : Nat) (r3 : Nat) (x4 : Int32) (x5 : Int32) (x6 : Int32) (h : JH), L_X8_delete_84 D d Q K45 n r0 r2 r3 x4 x5 x6 h → JW D (d + 1) mX8_delete 84 [some (vR 41 r0), none, some (vR 44 r2), some (vR 177 r3), some (vI x4), some (vI x5), some (vI x6)] [] h Q := by
  intro n
  induction n with
  | zero => intro _ _ _ _ _ _ _ w; exact w.elim
  | succ n ih => intro _ _ _ _ _ _ h w; exact w_X8_delete_84 hK45 ih w
def W_X8_delete_45 (D : JD) (d : Nat) (Q : JO → JH → Prop) (K45 : Nat → Nat → Nat → Int32 → Int32 → JH → Prop) (r0 : Nat) (r2 : Nat) (r3 : Nat) (x4 : Int32) (x5 : Int32) (h : JH) : Prop :=
  r2 ≠ 0 ∧ (((jfi h 255 r2) ≤ x5 → ∀ h_3 : JH, h_3 = wfi h 255 r2 x4 → (Q (.inl none) h_3)) ∧ (¬ (jfi h 255 r2) ≤ x5 → r3 ≠ 0 ∧ jin x5 (jln h r3) ∧ (((jai h r3 (ixn x5)) = 0 → (x5 ≤ x4 → W_X8_delete_118 D d Q K45 r0 r2 r3 x4 x5 h) ∧ (¬ x5 ≤ x4 → ∃ n, L_X8_delete_84 D d Q K45 n r0 r2 r3 x4 x5 (0 : Int32) h)) ∧ (¬ (jai h r3 (ixn x5)) = 0 → r0 ≠ 0 ∧ (∀ h_10 : JH, h_10 = wfi h 220 r0 ((jfi h 220 r0) + (1 : Int32)) → (W_X8_delete_121 D d Q K45 r0 r2 r3 x4 x5 h_10))))))
theorem w_X8_delete_45 {D : JD} {d : Nat} {Q : JO → JH → Prop} {K45 : Nat → Nat → Nat → Int32 → Int32 → JH → Prop} {r0 : Nat} {r2 : Nat} {r3 : Nat} {x4 : Int32} {x5 : Int32} {h : JH} (hK45 : ∀ (r0 : Nat) (r2 : Nat) (r3 : Nat) (x4 : Int32) (x5 : Int32) (h : JH), K45 r0 r2 r3 x4 x5 h → JW D (d + 1) mX8_delete 45 [some (vR 41 r0), none, some (vR 44 r2), some (vR 177 r3), some (vI x4), some (vI x5), none] [] h Q) (w : W_X8_delete_45 D d Q K45 r0 r2 r3 x4 x5 h) : JW D (d + 1) mX8_delete 45 [some (vR 41 r0), none, some (vR 44 r2), some (vR 177 r3), some (vI x4), some (vI x5), none] [] h Q := by
  unfold W_X8_delete_45 at w
  refine jw_iload (pc' := 47) rfl rfl ?_
  refine jw_aload_n (pc' := 48) rfl rfl ?_
  obtain ⟨g_1, w⟩ := w
  refine jw_getI (pc' := 51) (F := 255) rfl rfl rfl rfl g_1 ?_
  refine jw_icmp_ge (tgt := 127) (pc' := 54) rfl rfl (fun c_2 => ?_) (fun c_2 => ?_)
  · replace w := w.1 c_2
    refine jw_aload_n (pc' := 128) rfl rfl ?_
    refine jw_iload (pc' := 130) rfl rfl ?_
    refine jw_putI' (pc' := 133) (F := 255) rfl rfl rfl (Or.inr rfl) (Or.inl rfl) rfl (rfl) (rfl) rfl g_1 (fun h_3 e_4 => ?_)
    replace w := w h_3 e_4
    exact jw_return rfl rfl w
  · replace w := w.2 c_2
    refine jw_aload_n (pc' := 55) rfl rfl ?_
    refine jw_iload (pc' := 57) rfl rfl ?_
    obtain ⟨g_5, w⟩ := w
    obtain ⟨g_6, w⟩ := w
    refine jw_zald (pc' := 58) rfl rfl rfl rfl g_5 g_6.ix g_6.2 ?_
    refine jw_if_eq (tgt := 74) (pc' := 61) rfl rfl (fun c_7 => ?_) (fun c_7 => ?_)
    · replace w := w.1 c_7
      refine jw_iload (pc' := 76) rfl rfl ?_
      refine jw_iload (pc' := 78) rfl rfl ?_
      refine jw_icmp_ge (tgt := 118) (pc' := 81) rfl rfl (fun c_8 => ?_) (fun c_8 => ?_)
      · replace w := w.1 c_8
        exact w_X8_delete_118 hK45 w
      · replace w := w.2 c_8
        refine jw_iconst (pc' := 82) (x := (0 : Int32)) rfl rfl ?_
        refine jw_istore (pc' := 84) (ls' := [some (vR 41 r0), none, some (vR 44 r2), some (vR 177 r3), some (vI x4), some (vI x5), some (vI (0 : Int32))]) rfl (by decide) rfl ?_
        obtain ⟨n, w⟩ := w
        exact l_X8_delete_84 hK45 n _ _ _ _ _ _ _ w
    · replace w := w.2 c_7
      refine jw_aload_n (pc' := 62) rfl rfl ?_
      refine jw_dup (pc' := 63) rfl rfl ?_
      obtain ⟨g_9, w⟩ := w
      refine jw_getI (pc' := 66) (F := 220) rfl rfl rfl rfl g_9 ?_
      refine jw_iconst (pc' := 67) (x := (1 : Int32)) rfl rfl ?_
      refine jw_iadd (pc' := 68) rfl ?_
      refine jw_putI' (pc' := 71) (F := 220) rfl rfl rfl (Or.inr rfl) (Or.inl rfl) rfl (rfl) (rfl) rfl g_9 (fun h_10 e_11 => ?_)
      replace w := w h_10 e_11
      refine jw_goto (pc' := 121) rfl rfl ?_
      exact w_X8_delete_121 hK45 w
def L_X8_delete_45 (D : JD) (d : Nat) (Q : JO → JH → Prop) : Nat → Nat → Nat → Nat → Int32 → Int32 → JH → Prop
  | 0 => fun _ _ _ _ _ _ => False
  | n + 1 => fun r0 r2 r3 x4 x5 h => W_X8_delete_45 D d Q (L_X8_delete_45 D d Q n) r0 r2 r3 x4 x5 h
theorem l_X8_delete_45 {D : JD} {d : Nat} {Q : JO → JH → Prop} : ∀ (n : Nat) (r0 : Nat) (r2 : Nat) (r3 : Nat) (x4 : Int32) (x5 : Int32) (h : JH), L_X8_delete_45 D d Q n r0 r2 r3 x4 x5 h → JW D (d + 1) mX8_delete 45 [some (vR 41 r0), none, some (vR 44 r2), some (vR 177 r3), some (vI x4), some (vI x5), none] [] h Q := by
  intro n
  induction n with
  | zero => intro _ _ _ _ _ _ w; exact w.elim
  | succ n ih => intro _ _ _ _ _ h w; exact w_X8_delete_45 ih w
def W_X8_delete_8 (D : JD) (d : Nat) (Q : JO → JH → Prop) (K8 : Nat → Nat → Nat → Nat → Int32 → JH → Prop) (r0 : Nat) (r1 : Nat) (r2 : Nat) (r3 : Nat) (x4 : Int32) (h : JH) : Prop :=
  r2 ≠ 0 ∧ (((jfi h 255 r2) ≤ x4 → ∃ n, L_X8_delete_45 D d Q n r0 r2 r3 (0 : Int32) (0 : Int32) h) ∧ (¬ (jfi h 255 r2) ≤ x4 → r0 ≠ 0 ∧ ∀ h_4 : JH, h_4 = wfi h 177 r0 (0 : Int32) → (cX8_holds D d r0 r1 x4 h_4 (pI D h_4 (fun v_8 h_6 => r3 ≠ 0 ∧ jin x4 (jln h_6 r3) ∧ jbo v_8 ∧ ∀ h_12 : JH, h_12 = wai h_6 r3 (ixn x4) v_8 → (K8 r0 r1 r2 r3 (x4 + (1 : Int32)) h_12)) (jth Q)))))
theorem w_X8_delete_8 {D : JD} {d : Nat} {Q : JO → JH → Prop} {K8 : Nat → Nat → Nat → Nat → Int32 → JH → Prop} {r0 : Nat} {r1 : Nat} {r2 : Nat} {r3 : Nat} {x4 : Int32} {h : JH} (hK8 : ∀ (r0 : Nat) (r1 : Nat) (r2 : Nat) (r3 : Nat) (x4 : Int32) (h : JH), K8 r0 r1 r2 r3 x4 h → JW D (d + 1) mX8_delete 8 [some (vR 41 r0), some (vR 47 r1), some (vR 44 r2), some (vR 177 r3), some (vI x4), none, none] [] h Q) (w : W_X8_delete_8 D d Q K8 r0 r1 r2 r3 x4 h) : JW D (d + 1) mX8_delete 8 [some (vR 41 r0), some (vR 47 r1), some (vR 44 r2), some (vR 177 r3), some (vI x4), none, none] [] h Q := by
  unfold W_X8_delete_8 at w
  refine jw_iload (pc' := 10) rfl rfl ?_
  refine jw_aload_n (pc' := 11) rfl rfl ?_
  obtain ⟨g_1, w⟩ := w
  refine jw_getI (pc' := 14) (F := 255) rfl rfl rfl rfl g_1 ?_
  refine jw_icmp_ge (tgt := 39) (pc' := 17) rfl rfl (fun c_2 => ?_) (fun c_2 => ?_)
  · replace w := w.1 c_2
    refine jw_iconst (pc' := 40) (x := (0 : Int32)) rfl rfl ?_
    refine jw_istore (pc' := 42) (ls' := [some (vR 41 r0), some (vR 47 r1), some (vR 44 r2), some (vR 177 r3), some (vI (0 : Int32)), none, none]) rfl (by decide) rfl ?_
    refine jw_iconst (pc' := 43) (x := (0 : Int32)) rfl rfl ?_
    refine jw_istore (pc' := 45) (ls' := [some (vR 41 r0), some (vR 47 r1), some (vR 44 r2), some (vR 177 r3), some (vI (0 : Int32)), some (vI (0 : Int32)), none]) rfl (by decide) rfl ?_
    refine jw_gen (ls' := [some (vR 41 r0), none, some (vR 44 r2), some (vR 177 r3), some (vI (0 : Int32)), some (vI (0 : Int32)), none]) (st' := []) (And.intro (Or.inl rfl) (And.intro (Or.inl rfl) (And.intro (Or.inl rfl) (And.intro (Or.inl rfl) (And.intro (Or.inl rfl) (trivial)))))) (trivial) ?_
    obtain ⟨n, w⟩ := w
    exact l_X8_delete_45 n _ _ _ _ _ _ w
  · replace w := w.2 c_2
    refine jw_aload_n (pc' := 18) rfl rfl ?_
    refine jw_iconst (pc' := 19) (x := (0 : Int32)) rfl rfl ?_
    obtain ⟨g_3, w⟩ := w
    refine jw_putI' (pc' := 22) (F := 177) rfl rfl rfl (Or.inr rfl) (Or.inl rfl) rfl (rfl) (rfl) rfl g_3 (fun h_4 e_5 => ?_)
    replace w := w h_4 e_5
    refine jw_aload_n (pc' := 23) rfl rfl ?_
    refine jw_iload (pc' := 25) rfl rfl ?_
    refine jw_aload_n (pc' := 26) rfl rfl ?_
    refine jw_aload_n (pc' := 27) rfl rfl ?_
    refine jw_iload (pc' := 29) rfl rfl ?_
    refine jw_cI (st := [vI x4, vR 177 r3]) (sa := [vR 41 r0, vR 47 r1, vI x4]) okX8_holds rfl rfl rfl rfl rfl rfl (jstp_virtual (sa := [vR 47 r1, vI x4]) (st := [vI x4, vR 177 r3]) (k := 0) rfl rfl sX8_holds okX8_holds g_3 (one41.k g_3) rfl rfl) w (fun v_8 h_6 _ _ w => ?_)
    obtain ⟨g_9, w⟩ := w
    obtain ⟨g_10, w⟩ := w
    obtain ⟨g_11, w⟩ := w
    refine jw_zast' (pc' := 33) rfl rfl rfl rfl rfl (g_11.nr) g_9 g_10 (fun h_12 e_13 => ?_)
    replace w := w h_12 e_13
    refine jw_iinc (pc' := 36) (y := x4 + (1 : Int32)) (ls' := [some (vR 41 r0), some (vR 47 r1), some (vR 44 r2), some (vR 177 r3), some (vI (x4 + (1 : Int32))), none, none]) rfl (by decide) rfl rfl rfl ?_
    refine jw_goto (pc' := 8) rfl rfl ?_
    exact hK8 _ _ _ _ _ _ w
def L_X8_delete_8 (D : JD) (d : Nat) (Q : JO → JH → Prop) : Nat → Nat → Nat → Nat → Nat → Int32 → JH → Prop
  | 0 => fun _ _ _ _ _ _ => False
  | n + 1 => fun r0 r1 r2 r3 x4 h => W_X8_delete_8 D d Q (L_X8_delete_8 D d Q n) r0 r1 r2 r3 x4 h
theorem l_X8_delete_8 {D : JD} {d : Nat} {Q : JO → JH → Prop} : ∀ (n : Nat) (r0 : Nat) (r1 : Nat) (r2 : Nat) (r3 : Nat) (x4 : Int32) (h : JH), L_X8_delete_8 D d Q n r0 r1 r2 r3 x4 h → JW D (d + 1) mX8_delete 8 [some (vR 41 r0), some (vR 47 r1), some (vR 44 r2), some (vR 177 r3), some (vI x4), none, none] [] h Q := by
  intro n
  induction n with
  | zero => intro _ _ _ _ _ _ w; exact w.elim
  | succ n ih => intro _ _ _ _ _ h w; exact w_X8_delete_8 ih w
def W_X8_delete_0 (D : JD) (d : Nat) (Q : JO → JH → Prop) (r0 : Nat) (r1 : Nat) (r2 : Nat) (h : JH) : Prop :=
  r0 ≠ 0 ∧ (∃ n, L_X8_delete_8 D d Q n r0 r1 r2 (jfr h 219 r0) (0 : Int32) h)
theorem w_X8_delete_0 {D : JD} {d : Nat} {Q : JO → JH → Prop} {r0 : Nat} {r1 : Nat} {r2 : Nat} {h : JH} (w : W_X8_delete_0 D d Q r0 r1 r2 h) : JW D (d + 1) mX8_delete 0 [some (vR 41 r0), some (vR 47 r1), some (vR 44 r2), none, none, none, none] [] h Q := by
  unfold W_X8_delete_0 at w
  refine jw_aload_n (pc' := 1) rfl rfl ?_
  obtain ⟨g_1, w⟩ := w
  refine jw_getR (pc' := 4) (F := 219) (t' := 177) rfl rfl rfl rfl rfl g_1 ?_
  refine jw_astore_n (pc' := 5) (ls' := [some (vR 41 r0), some (vR 47 r1), some (vR 44 r2), some (vR 177 (jfr h 219 r0)), none, none, none]) rfl (by decide) rfl ?_
  refine jw_iconst (pc' := 6) (x := (0 : Int32)) rfl rfl ?_
  refine jw_istore (pc' := 8) (ls' := [some (vR 41 r0), some (vR 47 r1), some (vR 44 r2), some (vR 177 (jfr h 219 r0)), some (vI (0 : Int32)), none, none]) rfl (by decide) rfl ?_
  obtain ⟨n, w⟩ := w
  exact l_X8_delete_8 n _ _ _ _ _ _ w
def T_X8_delete (D : JD) (d : Nat) (Q : JO → JH → Prop) (r0 : Nat) (r1 : Nat) (r2 : Nat) (h : JH) : Prop := W_X8_delete_0 D d Q r0 r1 r2 h
theorem t_X8_delete {D : JD} {d : Nat} {Q : JO → JH → Prop} {r0 : Nat} {r1 : Nat} {r2 : Nat} {h : JH} (w : T_X8_delete D d Q r0 r1 r2 h) : cX8_delete D (d + 1) r0 r1 r2 h Q := by
  unfold T_X8_delete at w
  unfold cX8_delete
  exact w_X8_delete_0 w
def W_X8_select_2_190 (D : JD) (d : Nat) (Q : JO → JH → Prop) (r0 : Nat) (r1 : Nat) (r2 : Nat) (h : JH) : Prop :=
  r0 ≠ 0 ∧ (cX8_finish D d r0 r1 r2 h (pV D h (fun h_2 => Q (.inl none) h_2) (jth Q)))
theorem w_X8_select_2_190 {D : JD} {d : Nat} {Q : JO → JH → Prop} {r0 : Nat} {r1 : Nat} {r2 : Nat} {h : JH} (w : W_X8_select_2_190 D d Q r0 r1 r2 h) : JW D (d + 1) mX8_select_2 190 [some (vR 41 r0), some (vR 47 r1), some (vR 45 r2), none, none, none] [] h Q := by
  unfold W_X8_select_2_190 at w
  refine jw_aload_n (pc' := 191) rfl rfl ?_
  refine jw_aload_n (pc' := 192) rfl rfl ?_
  refine jw_aload_n (pc' := 193) rfl rfl ?_
  obtain ⟨g_1, w⟩ := w
  refine jw_cV (st := []) (sa := [vR 41 r0, vR 47 r1, vR 45 r2]) okX8_finish rfl rfl rfl rfl rfl rfl (jstp_virtual (sa := [vR 47 r1, vR 45 r2]) (st := []) (k := 0) rfl rfl sX8_finish okX8_finish g_1 (one41.k g_1) rfl rfl) w (fun h_2 _ _ w => ?_)
  exact jw_return rfl rfl w
def W_X8_select_2_164 (D : JD) (d : Nat) (Q : JO → JH → Prop) (K164 : Nat → Nat → Nat → Int32 → JH → Prop) (r0 : Nat) (r1 : Nat) (r2 : Nat) (x5 : Int32) (h : JH) : Prop :=
  r0 ≠ 0 ∧ (((jfi h 209 r0) ≤ x5 → W_X8_select_2_190 D d Q r0 r1 r2 h) ∧ (¬ (jfi h 209 r0) ≤ x5 → cX8_useRow D d r0 x5 h (pV D h (fun h_3 => cX8_out D d r0 r1 h_3 (pV D h_3 (fun h_6 => K164 r0 r1 r2 (x5 + (1 : Int32)) h_6) (jth Q))) (jth Q))))
theorem w_X8_select_2_164 {D : JD} {d : Nat} {Q : JO → JH → Prop} {K164 : Nat → Nat → Nat → Int32 → JH → Prop} {r0 : Nat} {r1 : Nat} {r2 : Nat} {x5 : Int32} {h : JH} (hK164 : ∀ (r0 : Nat) (r1 : Nat) (r2 : Nat) (x5 : Int32) (h : JH), K164 r0 r1 r2 x5 h → JW D (d + 1) mX8_select_2 164 [some (vR 41 r0), some (vR 47 r1), some (vR 45 r2), none, none, some (vI x5)] [] h Q) (w : W_X8_select_2_164 D d Q K164 r0 r1 r2 x5 h) : JW D (d + 1) mX8_select_2 164 [some (vR 41 r0), some (vR 47 r1), some (vR 45 r2), none, none, some (vI x5)] [] h Q := by
  unfold W_X8_select_2_164 at w
  refine jw_iload (pc' := 166) rfl rfl ?_
  refine jw_aload_n (pc' := 167) rfl rfl ?_
  obtain ⟨g_1, w⟩ := w
  refine jw_getI (pc' := 170) (F := 209) rfl rfl rfl rfl g_1 ?_
  refine jw_icmp_ge (tgt := 190) (pc' := 173) rfl rfl (fun c_2 => ?_) (fun c_2 => ?_)
  · replace w := w.1 c_2
    refine jw_gen (ls' := [some (vR 41 r0), some (vR 47 r1), some (vR 45 r2), none, none, none]) (st' := []) (And.intro (Or.inl rfl) (And.intro (Or.inl rfl) (And.intro (Or.inl rfl) (trivial)))) (trivial) ?_
    exact w_X8_select_2_190 w
  · replace w := w.2 c_2
    refine jw_aload_n (pc' := 174) rfl rfl ?_
    refine jw_iload (pc' := 176) rfl rfl ?_
    refine jw_cV (st := []) (sa := [vR 41 r0, vI x5]) okX8_useRow rfl rfl rfl rfl rfl rfl (jstp_virtual (sa := [vI x5]) (st := []) (k := 0) rfl rfl sX8_useRow okX8_useRow g_1 (one41.k g_1) rfl rfl) w (fun h_3 _ _ w => ?_)
    refine jw_aload_n (pc' := 180) rfl rfl ?_
    refine jw_aload_n (pc' := 181) rfl rfl ?_
    refine jw_cV (st := []) (sa := [vR 41 r0, vR 47 r1]) okX8_out rfl rfl rfl rfl rfl rfl (jstp_virtual (sa := [vR 47 r1]) (st := []) (k := 0) rfl rfl sX8_out okX8_out g_1 (one41.k g_1) rfl rfl) w (fun h_6 _ _ w => ?_)
    refine jw_iinc (pc' := 187) (y := x5 + (1 : Int32)) (ls' := [some (vR 41 r0), some (vR 47 r1), some (vR 45 r2), none, none, some (vI (x5 + (1 : Int32)))]) rfl (by decide) rfl rfl rfl ?_
    refine jw_goto (pc' := 164) rfl rfl ?_
    exact hK164 _ _ _ _ _ w
def L_X8_select_2_164 (D : JD) (d : Nat) (Q : JO → JH → Prop) : Nat → Nat → Nat → Nat → Int32 → JH → Prop
  | 0 => fun _ _ _ _ _ => False
  | n + 1 => fun r0 r1 r2 x5 h => W_X8_select_2_164 D d Q (L_X8_select_2_164 D d Q n) r0 r1 r2 x5 h
theorem l_X8_select_2_164 {D : JD} {d : Nat} {Q : JO → JH → Prop} : ∀ (n : Nat) (r0 : Nat) (r1 : Nat) (r2 : Nat) (x5 : Int32) (h : JH), L_X8_select_2_164 D d Q n r0 r1 r2 x5 h → JW D (d + 1) mX8_select_2 164 [some (vR 41 r0), some (vR 47 r1), some (vR 45 r2), none, none, some (vI x5)] [] h Q := by
  intro n
  induction n with
  | zero => intro _ _ _ _ _ w; exact w.elim
  | succ n ih => intro _ _ _ _ h w; exact w_X8_select_2_164 ih w
def W_X8_select_2_155 (D : JD) (d : Nat) (Q : JO → JH → Prop) (r0 : Nat) (r1 : Nat) (r2 : Nat) (q0 : Nat) (s1 : Int32) (h : JH) : Prop :=
  q0 ≠ 0 ∧ (cX8_must D d q0 s1 (jcs D 302) h (pV D h (fun h_2 => ∃ n, L_X8_select_2_164 D d Q n r0 r1 r2 (0 : Int32) h_2) (jth Q)))
theorem w_X8_select_2_155 {D : JD} {d : Nat} {Q : JO → JH → Prop} {r0 : Nat} {r1 : Nat} {r2 : Nat} {q0 : Nat} {s1 : Int32} {h : JH} (w : W_X8_select_2_155 D d Q r0 r1 r2 q0 s1 h) : JW D (d + 1) mX8_select_2 155 [some (vR 41 r0), some (vR 47 r1), some (vR 45 r2), none, none, none] [vI s1, vR 41 q0] h Q := by
  unfold W_X8_select_2_155 at w
  refine jw_ldcwS (pc' := 158) rfl rfl rfl rfl ?_
  obtain ⟨g_1, w⟩ := w
  refine jw_cV (st := []) (sa := [vR 41 q0, vI s1, vR 51 (jcs D 302)]) okX8_must rfl rfl rfl rfl rfl rfl (jstp_virtual (sa := [vI s1, vR 51 (jcs D 302)]) (st := []) (k := 0) rfl rfl sX8_must okX8_must g_1 (one41.k g_1) rfl rfl) w (fun h_2 _ _ w => ?_)
  refine jw_iconst (pc' := 162) (x := (0 : Int32)) rfl rfl ?_
  refine jw_istore (pc' := 164) (ls' := [some (vR 41 r0), some (vR 47 r1), some (vR 45 r2), none, none, some (vI (0 : Int32))]) rfl (by decide) rfl ?_
  obtain ⟨n, w⟩ := w
  exact l_X8_select_2_164 n _ _ _ _ _ w
def W_X8_select_2_88 (D : JD) (d : Nat) (Q : JO → JH → Prop) (K88 : Nat → Nat → Nat → Int32 → JH → Prop) (r0 : Nat) (r1 : Nat) (r2 : Nat) (x5 : Int32) (h : JH) : Prop :=
  ((3 : Int32) ≤ x5 → r0 ≠ 0 ∧ (cX8_ways D d r0 r1 (0 : Int32) h (pV D h (fun h_3 => cX8_filter D d r0 r1 h_3 (pV D h_3 (fun h_6 => ∀ h_9 : JH, h_9 = wfi h_6 215 r0 (0 : Int32) → (r1 ≠ 0 ∧ (((jfi h_9 303 r1) = 0 → ((300 : Int32) < (jfi h_9 209 r0) → W_X8_select_2_155 D d Q r0 r1 r2 r0 (0 : Int32) h_9) ∧ (¬ (300 : Int32) < (jfi h_9 209 r0) → W_X8_select_2_155 D d Q r0 r1 r2 r0 (1 : Int32) h_9)) ∧ (¬ (jfi h_9 303 r1) = 0 → cX8_groups D d r0 r1 h_9 (pV D h_9 (fun h_14 => W_X8_select_2_190 D d Q r0 r1 r2 h_14) (jth Q)))))) (jth Q))) (jth Q)))) ∧ (¬ (3 : Int32) ≤ x5 → r0 ≠ 0 ∧ ((jfr h 204 r0) ≠ 0 ∧ jin x5 (jln h (jfr h 204 r0)) ∧ ∀ h_20 : JH, h_20 = wai h (jfr h 204 r0) (ixn x5) (-1 : Int32) → (K88 r0 r1 r2 (x5 + (1 : Int32)) h_20)))
theorem w_X8_select_2_88 {D : JD} {d : Nat} {Q : JO → JH → Prop} {K88 : Nat → Nat → Nat → Int32 → JH → Prop} {r0 : Nat} {r1 : Nat} {r2 : Nat} {x5 : Int32} {h : JH} (hK88 : ∀ (r0 : Nat) (r1 : Nat) (r2 : Nat) (x5 : Int32) (h : JH), K88 r0 r1 r2 x5 h → JW D (d + 1) mX8_select_2 88 [some (vR 41 r0), some (vR 47 r1), some (vR 45 r2), none, none, some (vI x5)] [] h Q) (w : W_X8_select_2_88 D d Q K88 r0 r1 r2 x5 h) : JW D (d + 1) mX8_select_2 88 [some (vR 41 r0), some (vR 47 r1), some (vR 45 r2), none, none, some (vI x5)] [] h Q := by
  unfold W_X8_select_2_88 at w
  refine jw_iload (pc' := 90) rfl rfl ?_
  refine jw_iconst (pc' := 91) (x := (3 : Int32)) rfl rfl ?_
  refine jw_icmp_ge (tgt := 108) (pc' := 94) rfl rfl (fun c_1 => ?_) (fun c_1 => ?_)
  · replace w := w.1 c_1
    refine jw_aload_n (pc' := 109) rfl rfl ?_
    refine jw_aload_n (pc' := 110) rfl rfl ?_
    refine jw_iconst (pc' := 111) (x := (0 : Int32)) rfl rfl ?_
    obtain ⟨g_2, w⟩ := w
    refine jw_cV (st := []) (sa := [vR 41 r0, vR 47 r1, vI (0 : Int32)]) okX8_ways rfl rfl rfl rfl rfl rfl (jstp_virtual (sa := [vR 47 r1, vI (0 : Int32)]) (st := []) (k := 0) rfl rfl sX8_ways okX8_ways g_2 (one41.k g_2) rfl rfl) w (fun h_3 _ _ w => ?_)
    refine jw_aload_n (pc' := 115) rfl rfl ?_
    refine jw_aload_n (pc' := 116) rfl rfl ?_
    refine jw_cV (st := []) (sa := [vR 41 r0, vR 47 r1]) okX8_filter rfl rfl rfl rfl rfl rfl (jstp_virtual (sa := [vR 47 r1]) (st := []) (k := 0) rfl rfl sX8_filter okX8_filter g_2 (one41.k g_2) rfl rfl) w (fun h_6 _ _ w => ?_)
    refine jw_aload_n (pc' := 120) rfl rfl ?_
    refine jw_iconst (pc' := 121) (x := (0 : Int32)) rfl rfl ?_
    refine jw_putI' (pc' := 124) (F := 215) rfl rfl rfl (Or.inr rfl) (Or.inl rfl) rfl (rfl) (rfl) rfl g_2 (fun h_9 e_10 => ?_)
    replace w := w h_9 e_10
    refine jw_aload_n (pc' := 125) rfl rfl ?_
    obtain ⟨g_11, w⟩ := w
    refine jw_getI (pc' := 128) (F := 303) rfl rfl rfl rfl g_11 ?_
    refine jw_if_eq (tgt := 139) (pc' := 131) rfl rfl (fun c_12 => ?_) (fun c_12 => ?_)
    · replace w := w.1 c_12
      refine jw_aload_n (pc' := 140) rfl rfl ?_
      refine jw_aload_n (pc' := 141) rfl rfl ?_
      refine jw_getI (pc' := 144) (F := 209) rfl rfl rfl rfl g_2 ?_
      refine jw_sipush (pc' := 147) (x := (300 : Int32)) rfl rfl ?_
      refine jw_icmp_gt (tgt := 154) (pc' := 150) rfl rfl (fun c_13 => ?_) (fun c_13 => ?_)
      · replace w := w.1 c_13
        refine jw_iconst (pc' := 155) (x := (0 : Int32)) rfl rfl ?_
        refine jw_gen (ls' := [some (vR 41 r0), some (vR 47 r1), some (vR 45 r2), none, none, none]) (st' := [vI (0 : Int32), vR 41 r0]) (And.intro (Or.inl rfl) (And.intro (Or.inl rfl) (And.intro (Or.inl rfl) (trivial)))) (And.intro (Or.inl rfl) (And.intro (Or.inl rfl) (trivial))) ?_
        exact w_X8_select_2_155 w
      · replace w := w.2 c_13
        refine jw_iconst (pc' := 151) (x := (1 : Int32)) rfl rfl ?_
        refine jw_goto (pc' := 155) rfl rfl ?_
        refine jw_gen (ls' := [some (vR 41 r0), some (vR 47 r1), some (vR 45 r2), none, none, none]) (st' := [vI (1 : Int32), vR 41 r0]) (And.intro (Or.inl rfl) (And.intro (Or.inl rfl) (And.intro (Or.inl rfl) (trivial)))) (And.intro (Or.inl rfl) (And.intro (Or.inl rfl) (trivial))) ?_
        exact w_X8_select_2_155 w
    · replace w := w.2 c_12
      refine jw_aload_n (pc' := 132) rfl rfl ?_
      refine jw_aload_n (pc' := 133) rfl rfl ?_
      refine jw_cV (st := []) (sa := [vR 41 r0, vR 47 r1]) okX8_groups rfl rfl rfl rfl rfl rfl (jstp_virtual (sa := [vR 47 r1]) (st := []) (k := 0) rfl rfl sX8_groups okX8_groups g_2 (one41.k g_2) rfl rfl) w (fun h_14 _ _ w => ?_)
      refine jw_goto (pc' := 190) rfl rfl ?_
      refine jw_gen (ls' := [some (vR 41 r0), some (vR 47 r1), some (vR 45 r2), none, none, none]) (st' := []) (And.intro (Or.inl rfl) (And.intro (Or.inl rfl) (And.intro (Or.inl rfl) (trivial)))) (trivial) ?_
      exact w_X8_select_2_190 w
  · replace w := w.2 c_1
    refine jw_aload_n (pc' := 95) rfl rfl ?_
    obtain ⟨g_17, w⟩ := w
    refine jw_getR (pc' := 98) (F := 204) (t' := 168) rfl rfl rfl rfl rfl g_17 ?_
    refine jw_iload (pc' := 100) rfl rfl ?_
    refine jw_iconst (pc' := 101) (x := (-1 : Int32)) rfl rfl ?_
    obtain ⟨g_18, w⟩ := w
    obtain ⟨g_19, w⟩ := w
    refine jw_iast' (pc' := 102) rfl rfl rfl rfl rfl g_18 g_19 (fun h_20 e_21 => ?_)
    replace w := w h_20 e_21
    refine jw_iinc (pc' := 105) (y := x5 + (1 : Int32)) (ls' := [some (vR 41 r0), some (vR 47 r1), some (vR 45 r2), none, none, some (vI (x5 + (1 : Int32)))]) rfl (by decide) rfl rfl rfl ?_
    refine jw_goto (pc' := 88) rfl rfl ?_
    exact hK88 _ _ _ _ _ w
def L_X8_select_2_88 (D : JD) (d : Nat) (Q : JO → JH → Prop) : Nat → Nat → Nat → Nat → Int32 → JH → Prop
  | 0 => fun _ _ _ _ _ => False
  | n + 1 => fun r0 r1 r2 x5 h => W_X8_select_2_88 D d Q (L_X8_select_2_88 D d Q n) r0 r1 r2 x5 h
theorem l_X8_select_2_88 {D : JD} {d : Nat} {Q : JO → JH → Prop} : ∀ (n : Nat) (r0 : Nat) (r1 : Nat) (r2 : Nat) (x5 : Int32) (h : JH), L_X8_select_2_88 D d Q n r0 r1 r2 x5 h → JW D (d + 1) mX8_select_2 88 [some (vR 41 r0), some (vR 47 r1), some (vR 45 r2), none, none, some (vI x5)] [] h Q := by
  intro n
  induction n with
  | zero => intro _ _ _ _ _ w; exact w.elim
  | succ n ih => intro _ _ _ _ h w; exact w_X8_select_2_88 ih w
def W_X8_select_2_69 (D : JD) (d : Nat) (Q : JO → JH → Prop) (r0 : Nat) (r1 : Nat) (r2 : Nat) (q0 : Nat) (s1 : Int32) (h : JH) : Prop :=
  q0 ≠ 0 ∧ (cX8_must D d q0 s1 (jcs D 302) h (pV D h (fun h_2 => r0 ≠ 0 ∧ ∀ h_6 : JH, h_6 = wfi h_2 177 r0 (0 : Int32) → (∀ h_8 : JH, h_8 = wfi h_6 209 r0 (0 : Int32) → (∃ n, L_X8_select_2_88 D d Q n r0 r1 r2 (0 : Int32) h_8))) (jth Q)))
theorem w_X8_select_2_69 {D : JD} {d : Nat} {Q : JO → JH → Prop} {r0 : Nat} {r1 : Nat} {r2 : Nat} {q0 : Nat} {s1 : Int32} {h : JH} (w : W_X8_select_2_69 D d Q r0 r1 r2 q0 s1 h) : JW D (d + 1) mX8_select_2 69 [some (vR 41 r0), some (vR 47 r1), some (vR 45 r2), none, none, none] [vI s1, vR 41 q0] h Q := by
  unfold W_X8_select_2_69 at w
  refine jw_ldcwS (pc' := 72) rfl rfl rfl rfl ?_
  obtain ⟨g_1, w⟩ := w
  refine jw_cV (st := []) (sa := [vR 41 q0, vI s1, vR 51 (jcs D 302)]) okX8_must rfl rfl rfl rfl rfl rfl (jstp_virtual (sa := [vI s1, vR 51 (jcs D 302)]) (st := []) (k := 0) rfl rfl sX8_must okX8_must g_1 (one41.k g_1) rfl rfl) w (fun h_2 _ _ w => ?_)
  refine jw_aload_n (pc' := 76) rfl rfl ?_
  refine jw_iconst (pc' := 77) (x := (0 : Int32)) rfl rfl ?_
  obtain ⟨g_5, w⟩ := w
  refine jw_putI' (pc' := 80) (F := 177) rfl rfl rfl (Or.inr rfl) (Or.inl rfl) rfl (rfl) (rfl) rfl g_5 (fun h_6 e_7 => ?_)
  replace w := w h_6 e_7
  refine jw_aload_n (pc' := 81) rfl rfl ?_
  refine jw_iconst (pc' := 82) (x := (0 : Int32)) rfl rfl ?_
  refine jw_putI' (pc' := 85) (F := 209) rfl rfl rfl (Or.inr rfl) (Or.inl rfl) rfl (rfl) (rfl) rfl g_5 (fun h_8 e_9 => ?_)
  replace w := w h_8 e_9
  refine jw_iconst (pc' := 86) (x := (0 : Int32)) rfl rfl ?_
  refine jw_istore (pc' := 88) (ls' := [some (vR 41 r0), some (vR 47 r1), some (vR 45 r2), none, none, some (vI (0 : Int32))]) rfl (by decide) rfl ?_
  obtain ⟨n, w⟩ := w
  exact l_X8_select_2_88 n _ _ _ _ _ w
def W_X8_select_2_5 (D : JD) (d : Nat) (Q : JO → JH → Prop) (K5 : Nat → Nat → Nat → Int64 → Int32 → JH → Prop) (r0 : Nat) (r1 : Nat) (r2 : Nat) (y3 : Int64) (x5 : Int32) (h : JH) : Prop :=
  r1 ≠ 0 ∧ (((jfi h 290 r1) ≤ x5 → (0 < (lg_cmp y3 (10000 : Int64)) → W_X8_select_2_69 D d Q r0 r1 r2 r0 (0 : Int32) h) ∧ (¬ 0 < (lg_cmp y3 (10000 : Int64)) → W_X8_select_2_69 D d Q r0 r1 r2 r0 (1 : Int32) h)) ∧ (¬ (jfi h 290 r1) ≤ x5 → r0 ≠ 0 ∧ ((jfr h 286 r1) ≠ 0 ∧ jin x5 (jln h (jfr h 286 r1)) ∧ ((jfr h 178 r0) ≠ 0 ∧ (cX10_find D d (jfr h 178 r0) (jar h (jfr h 286 r1) (ixn x5)) h (pR D h 44 (fun v_10 h_8 => (jfr h 200 r0) ≠ 0 ∧ jin x5 (jln h_8 (jfr h 200 r0)) ∧ ∀ h_13 : JH, h_13 = war h_8 (jfr h 200 r0) (ixn x5) v_10 → ((jfr h_13 200 r0) ≠ 0 ∧ jin x5 (jln h_13 (jfr h_13 200 r0)) ∧ ((jar h_13 (jfr h_13 200 r0) (ixn x5)) ≠ 0 ∧ (K5 r0 r1 r2 (y3 * (Int32.toInt64 (jfi h_13 255 (jar h_13 (jfr h_13 200 r0) (ixn x5))))) (x5 + (1 : Int32)) h_13)))) (jth Q)))))))
theorem w_X8_select_2_5 {D : JD} {d : Nat} {Q : JO → JH → Prop} {K5 : Nat → Nat → Nat → Int64 → Int32 → JH → Prop} {r0 : Nat} {r1 : Nat} {r2 : Nat} {y3 : Int64} {x5 : Int32} {h : JH} (hK5 : ∀ (r0 : Nat) (r1 : Nat) (r2 : Nat) (y3 : Int64) (x5 : Int32) (h : JH), K5 r0 r1 r2 y3 x5 h → JW D (d + 1) mX8_select_2 5 [some (vR 41 r0), some (vR 47 r1), some (vR 45 r2), some (vL y3), none, some (vI x5)] [] h Q) (w : W_X8_select_2_5 D d Q K5 r0 r1 r2 y3 x5 h) : JW D (d + 1) mX8_select_2 5 [some (vR 41 r0), some (vR 47 r1), some (vR 45 r2), some (vL y3), none, some (vI x5)] [] h Q := by
  unfold W_X8_select_2_5 at w
  refine jw_iload (pc' := 7) rfl rfl ?_
  refine jw_aload_n (pc' := 8) rfl rfl ?_
  obtain ⟨g_1, w⟩ := w
  refine jw_getI (pc' := 11) (F := 290) rfl rfl rfl rfl g_1 ?_
  refine jw_icmp_ge (tgt := 55) (pc' := 14) rfl rfl (fun c_2 => ?_) (fun c_2 => ?_)
  · replace w := w.1 c_2
    refine jw_aload_n (pc' := 56) rfl rfl ?_
    refine jw_lload_n (pc' := 57) rfl rfl ?_
    refine jw_ldc2 (pc' := 60) (v := (10000 : Int64)) rfl rfl ?_
    refine jw_lcmp (pc' := 61) rfl ?_
    refine jw_if_gt (tgt := 68) (pc' := 64) rfl rfl (fun c_3 => ?_) (fun c_3 => ?_)
    · replace w := w.1 c_3
      refine jw_iconst (pc' := 69) (x := (0 : Int32)) rfl rfl ?_
      refine jw_gen (ls' := [some (vR 41 r0), some (vR 47 r1), some (vR 45 r2), none, none, none]) (st' := [vI (0 : Int32), vR 41 r0]) (And.intro (Or.inl rfl) (And.intro (Or.inl rfl) (And.intro (Or.inl rfl) (trivial)))) (And.intro (Or.inl rfl) (And.intro (Or.inl rfl) (trivial))) ?_
      exact w_X8_select_2_69 w
    · replace w := w.2 c_3
      refine jw_iconst (pc' := 65) (x := (1 : Int32)) rfl rfl ?_
      refine jw_goto (pc' := 69) rfl rfl ?_
      refine jw_gen (ls' := [some (vR 41 r0), some (vR 47 r1), some (vR 45 r2), none, none, none]) (st' := [vI (1 : Int32), vR 41 r0]) (And.intro (Or.inl rfl) (And.intro (Or.inl rfl) (And.intro (Or.inl rfl) (trivial)))) (And.intro (Or.inl rfl) (And.intro (Or.inl rfl) (trivial))) ?_
      exact w_X8_select_2_69 w
  · replace w := w.2 c_2
    refine jw_aload_n (pc' := 15) rfl rfl ?_
    obtain ⟨g_4, w⟩ := w
    refine jw_getR (pc' := 18) (F := 200) (t' := 167) rfl rfl rfl rfl rfl g_4 ?_
    refine jw_iload (pc' := 20) rfl rfl ?_
    refine jw_aload_n (pc' := 21) rfl rfl ?_
    refine jw_getR (pc' := 24) (F := 178) (t' := 116) rfl rfl rfl rfl rfl g_4 ?_
    refine jw_aload_n (pc' := 25) rfl rfl ?_
    refine jw_getR (pc' := 28) (F := 286) (t' := 205) rfl rfl rfl rfl rfl g_1 ?_
    refine jw_iload (pc' := 30) rfl rfl ?_
    obtain ⟨g_5, w⟩ := w
    obtain ⟨g_6, w⟩ := w
    refine jw_aald (pc' := 31) (t' := 64) rfl rfl rfl rfl g_5 g_6.ix g_6.2 ?_
    obtain ⟨g_7, w⟩ := w
    refine jw_cR (st := [vI x5, vR 167 (jfr h 200 r0)]) (sa := [vR 116 (jfr h 178 r0), vR 64 (jar h (jfr h 286 r1) (ixn x5))]) okX10_find rfl rfl rfl rfl rfl rfl (jstp_virtual (sa := [vR 64 (jar h (jfr h 286 r1) (ixn x5))]) (st := [vI x5, vR 167 (jfr h 200 r0)]) (k := 0) rfl rfl sX10_find okX10_find g_7 (one116.k g_7) rfl rfl) w (fun v_10 h_8 _ _ _ w => ?_)
    obtain ⟨g_11, w⟩ := w
    obtain ⟨g_12, w⟩ := w
    refine jw_aast' (pc' := 35) rfl rfl rfl rfl rfl rfl g_11 g_12 (fun h_13 e_14 => ?_)
    replace w := w h_13 e_14
    refine jw_lload_n (pc' := 36) rfl rfl ?_
    refine jw_aload_n (pc' := 37) rfl rfl ?_
    refine jw_getR (pc' := 40) (F := 200) (t' := 167) rfl rfl rfl rfl rfl g_4 ?_
    refine jw_iload (pc' := 42) rfl rfl ?_
    obtain ⟨g_15, w⟩ := w
    obtain ⟨g_16, w⟩ := w
    refine jw_aald (pc' := 43) (t' := 44) rfl rfl rfl rfl g_15 g_16.ix g_16.2 ?_
    obtain ⟨g_17, w⟩ := w
    refine jw_getI (pc' := 46) (F := 255) rfl rfl rfl rfl g_17 ?_
    refine jw_i2l (pc' := 47) rfl ?_
    refine jw_lmul (pc' := 48) rfl ?_
    refine jw_lstore_n (pc' := 49) (ls' := [some (vR 41 r0), some (vR 47 r1), some (vR 45 r2), some (vL (y3 * (Int32.toInt64 (jfi h_13 255 (jar h_13 (jfr h_13 200 r0) (ixn x5)))))), none, some (vI x5)]) rfl (by decide) rfl ?_
    refine jw_iinc (pc' := 52) (y := x5 + (1 : Int32)) (ls' := [some (vR 41 r0), some (vR 47 r1), some (vR 45 r2), some (vL (y3 * (Int32.toInt64 (jfi h_13 255 (jar h_13 (jfr h_13 200 r0) (ixn x5)))))), none, some (vI (x5 + (1 : Int32)))]) rfl (by decide) rfl rfl rfl ?_
    refine jw_goto (pc' := 5) rfl rfl ?_
    exact hK5 _ _ _ _ _ _ w
def L_X8_select_2_5 (D : JD) (d : Nat) (Q : JO → JH → Prop) : Nat → Nat → Nat → Nat → Int64 → Int32 → JH → Prop
  | 0 => fun _ _ _ _ _ _ => False
  | n + 1 => fun r0 r1 r2 y3 x5 h => W_X8_select_2_5 D d Q (L_X8_select_2_5 D d Q n) r0 r1 r2 y3 x5 h
theorem l_X8_select_2_5 {D : JD} {d : Nat} {Q : JO → JH → Prop} : ∀ (n : Nat) (r0 : Nat) (r1 : Nat) (r2 : Nat) (y3 : Int64) (x5 : Int32) (h : JH), L_X8_select_2_5 D d Q n r0 r1 r2 y3 x5 h → JW D (d + 1) mX8_select_2 5 [some (vR 41 r0), some (vR 47 r1), some (vR 45 r2), some (vL y3), none, some (vI x5)] [] h Q := by
  intro n
  induction n with
  | zero => intro _ _ _ _ _ _ w; exact w.elim
  | succ n ih => intro _ _ _ _ _ h w; exact w_X8_select_2_5 ih w
def W_X8_select_2_0 (D : JD) (d : Nat) (Q : JO → JH → Prop) (r0 : Nat) (r1 : Nat) (r2 : Nat) (h : JH) : Prop :=
  ∃ n, L_X8_select_2_5 D d Q n r0 r1 r2 (1 : Int64) (0 : Int32) h
theorem w_X8_select_2_0 {D : JD} {d : Nat} {Q : JO → JH → Prop} {r0 : Nat} {r1 : Nat} {r2 : Nat} {h : JH} (w : W_X8_select_2_0 D d Q r0 r1 r2 h) : JW D (d + 1) mX8_select_2 0 [some (vR 41 r0), some (vR 47 r1), some (vR 45 r2), none, none, none] [] h Q := by
  unfold W_X8_select_2_0 at w
  refine jw_lconst (pc' := 1) (x := (1 : Int64)) rfl rfl ?_
  refine jw_lstore_n (pc' := 2) (ls' := [some (vR 41 r0), some (vR 47 r1), some (vR 45 r2), some (vL (1 : Int64)), none, none]) rfl (by decide) rfl ?_
  refine jw_iconst (pc' := 3) (x := (0 : Int32)) rfl rfl ?_
  refine jw_istore (pc' := 5) (ls' := [some (vR 41 r0), some (vR 47 r1), some (vR 45 r2), some (vL (1 : Int64)), none, some (vI (0 : Int32))]) rfl (by decide) rfl ?_
  obtain ⟨n, w⟩ := w
  exact l_X8_select_2_5 n _ _ _ _ _ _ w
def T_X8_select_2 (D : JD) (d : Nat) (Q : JO → JH → Prop) (r0 : Nat) (r1 : Nat) (r2 : Nat) (h : JH) : Prop := W_X8_select_2_0 D d Q r0 r1 r2 h
theorem t_X8_select_2 {D : JD} {d : Nat} {Q : JO → JH → Prop} {r0 : Nat} {r1 : Nat} {r2 : Nat} {h : JH} (w : T_X8_select_2 D d Q r0 r1 r2 h) : cX8_select_2 D (d + 1) r0 r1 r2 h Q := by
  unfold T_X8_select_2 at w
  unfold cX8_select_2
  exact w_X8_select_2_0 w
def W_X8_ways_122 (D : JD) (d : Nat) (Q : JO → JH → Prop) (h : JH) : Prop :=
  Q (.inl none) h
theorem w_X8_ways_122 {D : JD} {d : Nat} {Q : JO → JH → Prop} {h : JH} (w : W_X8_ways_122 D d Q h) : JW D (d + 1) mX8_ways 122 [none, none, none, none, none, none, none] [] h Q := by
  unfold W_X8_ways_122 at w
  exact jw_return rfl rfl w
def W_X8_ways_103 (D : JD) (d : Nat) (Q : JO → JH → Prop) (K19 : Nat → Nat → Int32 → Int32 → Int32 → JH → Prop) (r0 : Nat) (r1 : Nat) (x2 : Int32) (x3 : Int32) (x4 : Int32) (h : JH) : Prop :=
  K19 r0 r1 x2 x3 (x4 + (1 : Int32)) h
theorem w_X8_ways_103 {D : JD} {d : Nat} {Q : JO → JH → Prop} {K19 : Nat → Nat → Int32 → Int32 → Int32 → JH → Prop} {r0 : Nat} {r1 : Nat} {x2 : Int32} {x3 : Int32} {x4 : Int32} {h : JH} (hK19 : ∀ (r0 : Nat) (r1 : Nat) (x2 : Int32) (x3 : Int32) (x4 : Int32) (h : JH), K19 r0 r1 x2 x3 x4 h → JW D (d + 1) mX8_ways 19 [some (vR 41 r0), some (vR 47 r1), some (vI x2), some (vI x3), some (vI x4), none, none] [] h Q) (w : W_X8_ways_103 D d Q K19 r0 r1 x2 x3 x4 h) : JW D (d + 1) mX8_ways 103 [some (vR 41 r0), some (vR 47 r1), some (vI x2), some (vI x3), some (vI x4), none, none] [] h Q := by
  unfold W_X8_ways_103 at w
  refine jw_iinc (pc' := 106) (y := x4 + (1 : Int32)) (ls' := [some (vR 41 r0), some (vR 47 r1), some (vI x2), some (vI x3), some (vI (x4 + (1 : Int32))), none, none]) rfl (by decide) rfl rfl rfl ?_
  refine jw_goto (pc' := 19) rfl rfl ?_
  exact hK19 _ _ _ _ _ _ w
def W_X8_ways_77 (D : JD) (d : Nat) (Q : JO → JH → Prop) (K19 : Nat → Nat → Int32 → Int32 → Int32 → JH → Prop) (r0 : Nat) (r1 : Nat) (x2 : Int32) (x3 : Int32) (x4 : Int32) (x5 : Int32) (s0 : Int32) (h : JH) : Prop :=
  r0 ≠ 0 ∧ ∀ h_2 : JH, h_2 = wfi h 177 r0 x5 → ((¬ s0 = 0 → cX8_ways D d r0 r1 (x2 + (1 : Int32)) h_2 (pV D h_2 (fun h_5 => W_X8_ways_103 D d Q K19 r0 r1 x2 (1 : Int32) x4 h_5) (jth Q))) ∧ (s0 = 0 → W_X8_ways_103 D d Q K19 r0 r1 x2 x3 x4 h_2))
theorem w_X8_ways_77 {D : JD} {d : Nat} {Q : JO → JH → Prop} {K19 : Nat → Nat → Int32 → Int32 → Int32 → JH → Prop} {r0 : Nat} {r1 : Nat} {x2 : Int32} {x3 : Int32} {x4 : Int32} {x5 : Int32} {s0 : Int32} {h : JH} (hK19 : ∀ (r0 : Nat) (r1 : Nat) (x2 : Int32) (x3 : Int32) (x4 : Int32) (h : JH), K19 r0 r1 x2 x3 x4 h → JW D (d + 1) mX8_ways 19 [some (vR 41 r0), some (vR 47 r1), some (vI x2), some (vI x3), some (vI x4), none, none] [] h Q) (w : W_X8_ways_77 D d Q K19 r0 r1 x2 x3 x4 x5 s0 h) : JW D (d + 1) mX8_ways 77 [some (vR 41 r0), some (vR 47 r1), some (vI x2), some (vI x3), some (vI x4), some (vI x5), none] [vI s0] h Q := by
  unfold W_X8_ways_77 at w
  refine jw_istore (pc' := 79) (ls' := [some (vR 41 r0), some (vR 47 r1), some (vI x2), some (vI x3), some (vI x4), some (vI x5), some (vI s0)]) rfl (by decide) rfl ?_
  refine jw_aload_n (pc' := 80) rfl rfl ?_
  refine jw_iload (pc' := 82) rfl rfl ?_
  obtain ⟨g_1, w⟩ := w
  refine jw_putI' (pc' := 85) (F := 177) rfl rfl rfl (Or.inr rfl) (Or.inl rfl) rfl (rfl) (rfl) rfl g_1 (fun h_2 e_3 => ?_)
  replace w := w h_2 e_3
  refine jw_iload (pc' := 87) rfl rfl ?_
  refine jw_if_ne (tgt := 93) (pc' := 90) rfl rfl (fun c_4 => ?_) (fun c_4 => ?_)
  · replace w := w.1 c_4
    refine jw_iconst (pc' := 94) (x := (1 : Int32)) rfl rfl ?_
    refine jw_istore_n (pc' := 95) (ls' := [some (vR 41 r0), some (vR 47 r1), some (vI x2), some (vI (1 : Int32)), some (vI x4), some (vI x5), some (vI s0)]) rfl (by decide) rfl ?_
    refine jw_aload_n (pc' := 96) rfl rfl ?_
    refine jw_aload_n (pc' := 97) rfl rfl ?_
    refine jw_iload_n (pc' := 98) rfl rfl ?_
    refine jw_iconst (pc' := 99) (x := (1 : Int32)) rfl rfl ?_
    refine jw_iadd (pc' := 100) rfl ?_
    refine jw_cV (st := []) (sa := [vR 41 r0, vR 47 r1, vI (x2 + (1 : Int32))]) okX8_ways rfl rfl rfl rfl rfl rfl (jstp_virtual (sa := [vR 47 r1, vI (x2 + (1 : Int32))]) (st := []) (k := 0) rfl rfl sX8_ways okX8_ways g_1 (one41.k g_1) rfl rfl) w (fun h_5 _ _ w => ?_)
    refine jw_gen (ls' := [some (vR 41 r0), some (vR 47 r1), some (vI x2), some (vI (1 : Int32)), some (vI x4), none, none]) (st' := []) (And.intro (Or.inl rfl) (And.intro (Or.inl rfl) (And.intro (Or.inl rfl) (And.intro (Or.inl rfl) (And.intro (Or.inl rfl) (trivial)))))) (trivial) ?_
    exact w_X8_ways_103 hK19 w
  · replace w := w.2 c_4
    refine jw_goto (pc' := 103) rfl rfl ?_
    refine jw_gen (ls' := [some (vR 41 r0), some (vR 47 r1), some (vI x2), some (vI x3), some (vI x4), none, none]) (st' := []) (And.intro (Or.inl rfl) (And.intro (Or.inl rfl) (And.intro (Or.inl rfl) (And.intro (Or.inl rfl) (And.intro (Or.inl rfl) (trivial)))))) (trivial) ?_
    exact w_X8_ways_103 hK19 w
def W_X8_ways_72 (D : JD) (d : Nat) (Q : JO → JH → Prop) (K19 : Nat → Nat → Int32 → Int32 → Int32 → JH → Prop) (r0 : Nat) (r1 : Nat) (x2 : Int32) (x3 : Int32) (x4 : Int32) (x5 : Int32) (h : JH) : Prop :=
  W_X8_ways_77 D d Q K19 r0 r1 x2 x3 x4 x5 (1 : Int32) h
theorem w_X8_ways_72 {D : JD} {d : Nat} {Q : JO → JH → Prop} {K19 : Nat → Nat → Int32 → Int32 → Int32 → JH → Prop} {r0 : Nat} {r1 : Nat} {x2 : Int32} {x3 : Int32} {x4 : Int32} {x5 : Int32} {h : JH} (hK19 : ∀ (r0 : Nat) (r1 : Nat) (x2 : Int32) (x3 : Int32) (x4 : Int32) (h : JH), K19 r0 r1 x2 x3 x4 h → JW D (d + 1) mX8_ways 19 [some (vR 41 r0), some (vR 47 r1), some (vI x2), some (vI x3), some (vI x4), none, none] [] h Q) (w : W_X8_ways_72 D d Q K19 r0 r1 x2 x3 x4 x5 h) : JW D (d + 1) mX8_ways 72 [some (vR 41 r0), some (vR 47 r1), some (vI x2), some (vI x3), some (vI x4), some (vI x5), none] [] h Q := by
  unfold W_X8_ways_72 at w
  refine jw_iconst (pc' := 73) (x := (1 : Int32)) rfl rfl ?_
  refine jw_goto (pc' := 77) rfl rfl ?_
  exact w_X8_ways_77 hK19 w
def W_X8_ways_19 (D : JD) (d : Nat) (Q : JO → JH → Prop) (K19 : Nat → Nat → Int32 → Int32 → Int32 → JH → Prop) (r0 : Nat) (r1 : Nat) (x2 : Int32) (x3 : Int32) (x4 : Int32) (h : JH) : Prop :=
  r0 ≠ 0 ∧ ((jfr h 200 r0) ≠ 0 ∧ jin x2 (jln h (jfr h 200 r0)) ∧ ((jar h (jfr h 200 r0) (ixn x2)) ≠ 0 ∧ (((jfi h 255 (jar h (jfr h 200 r0) (ixn x2))) ≤ x4 → (¬ x3 = 0 → W_X8_ways_122 D d Q h) ∧ (x3 = 0 → r1 ≠ 0 ∧ ((jfr h 289 r1) ≠ 0 ∧ jin x2 (jln h (jfr h 289 r1)) ∧ ((¬ (jai h (jfr h 289 r1) (ixn x2)) = 0 → (jfr h 204 r0) ≠ 0 ∧ jin x2 (jln h (jfr h 204 r0)) ∧ ∀ h_13 : JH, h_13 = wai h (jfr h 204 r0) (ixn x2) (-1 : Int32) → (cX8_ways D d r0 r1 (x2 + (1 : Int32)) h_13 (pV D h_13 (fun h_15 => Q (.inl none) h_15) (jth Q)))) ∧ ((jai h (jfr h 289 r1) (ixn x2)) = 0 → W_X8_ways_122 D d Q h))))) ∧ (¬ (jfi h 255 (jar h (jfr h 200 r0) (ixn x2))) ≤ x4 → (jfr h 204 r0) ≠ 0 ∧ jin x2 (jln h (jfr h 204 r0)) ∧ ∀ h_20 : JH, h_20 = wai h (jfr h 204 r0) (ixn x2) x4 → (r1 ≠ 0 ∧ ((jfr h_20 288 r1) ≠ 0 ∧ jin x2 (jln h_20 (jfr h_20 288 r1)) ∧ (((jar h_20 (jfr h_20 288 r1) (ixn x2)) = 0 → W_X8_ways_72 D d Q K19 r0 r1 x2 x3 x4 (jfi h_20 177 r0) h_20) ∧ ((jar h_20 (jfr h_20 288 r1) (ixn x2)) ≠ 0 → jin x2 (jln h_20 (jfr h_20 288 r1)) ∧ (cX8_eval D d r0 (jar h_20 (jfr h_20 288 r1) (ixn x2)) h_20 (pR D h_20 46 (fun v_29 h_27 => cX8_isTrue D d v_29 h_27 (pI D h_27 (fun v_32 h_30 => (v_32 = 0 → W_X8_ways_77 D d Q K19 r0 r1 x2 x3 x4 (jfi h_20 177 r0) (0 : Int32) h_30) ∧ (¬ v_32 = 0 → W_X8_ways_72 D d Q K19 r0 r1 x2 x3 x4 (jfi h_20 177 r0) h_30)) (jth Q))) (jth Q)))))))))))
theorem w_X8_ways_19 {D : JD} {d : Nat} {Q : JO → JH → Prop} {K19 : Nat → Nat → Int32 → Int32 → Int32 → JH → Prop} {r0 : Nat} {r1 : Nat} {x2 : Int32} {x3 : Int32} {x4 : Int32} {h : JH} (hK19 : ∀ (r0 : Nat) (r1 : Nat) (x2 : Int32) (x3 : Int32) (x4 : Int32) (h : JH), K19 r0 r1 x2 x3 x4 h → JW D (d + 1) mX8_ways 19 [some (vR 41 r0), some (vR 47 r1), some (vI x2), some (vI x3), some (vI x4), none, none] [] h Q) (w : W_X8_ways_19 D d Q K19 r0 r1 x2 x3 x4 h) : JW D (d + 1) mX8_ways 19 [some (vR 41 r0), some (vR 47 r1), some (vI x2), some (vI x3), some (vI x4), none, none] [] h Q := by
  unfold W_X8_ways_19 at w
  refine jw_iload (pc' := 21) rfl rfl ?_
  refine jw_aload_n (pc' := 22) rfl rfl ?_
  obtain ⟨g_1, w⟩ := w
  refine jw_getR (pc' := 25) (F := 200) (t' := 167) rfl rfl rfl rfl rfl g_1 ?_
  refine jw_iload_n (pc' := 26) rfl rfl ?_
  obtain ⟨g_2, w⟩ := w
  obtain ⟨g_3, w⟩ := w
  refine jw_aald (pc' := 27) (t' := 44) rfl rfl rfl rfl g_2 g_3.ix g_3.2 ?_
  obtain ⟨g_4, w⟩ := w
  refine jw_getI (pc' := 30) (F := 255) rfl rfl rfl rfl g_4 ?_
  refine jw_icmp_ge (tgt := 109) (pc' := 33) rfl rfl (fun c_5 => ?_) (fun c_5 => ?_)
  · replace w := w.1 c_5
    refine jw_iload_n (pc' := 110) rfl rfl ?_
    refine jw_if_ne (tgt := 122) (pc' := 113) rfl rfl (fun c_6 => ?_) (fun c_6 => ?_)
    · replace w := w.1 c_6
      refine jw_gen (ls' := [none, none, none, none, none, none, none]) (st' := []) (trivial) (trivial) ?_
      exact w_X8_ways_122 w
    · replace w := w.2 c_6
      refine jw_aload_n (pc' := 114) rfl rfl ?_
      obtain ⟨g_7, w⟩ := w
      refine jw_getR (pc' := 117) (F := 289) (t' := 208) rfl rfl rfl rfl rfl g_7 ?_
      refine jw_iload_n (pc' := 118) rfl rfl ?_
      obtain ⟨g_8, w⟩ := w
      obtain ⟨g_9, w⟩ := w
      refine jw_zald (pc' := 119) rfl rfl rfl rfl g_8 g_9.ix g_9.2 ?_
      refine jw_if_ne (tgt := 123) (pc' := 122) rfl rfl (fun c_10 => ?_) (fun c_10 => ?_)
      · replace w := w.1 c_10
        refine jw_aload_n (pc' := 124) rfl rfl ?_
        refine jw_getR (pc' := 127) (F := 204) (t' := 168) rfl rfl rfl rfl rfl g_1 ?_
        refine jw_iload_n (pc' := 128) rfl rfl ?_
        refine jw_iconst (pc' := 129) (x := (-1 : Int32)) rfl rfl ?_
        obtain ⟨g_11, w⟩ := w
        obtain ⟨g_12, w⟩ := w
        refine jw_iast' (pc' := 130) rfl rfl rfl rfl rfl g_11 g_12 (fun h_13 e_14 => ?_)
        replace w := w h_13 e_14
        refine jw_aload_n (pc' := 131) rfl rfl ?_
        refine jw_aload_n (pc' := 132) rfl rfl ?_
        refine jw_iload_n (pc' := 133) rfl rfl ?_
        refine jw_iconst (pc' := 134) (x := (1 : Int32)) rfl rfl ?_
        refine jw_iadd (pc' := 135) rfl ?_
        refine jw_cV (st := []) (sa := [vR 41 r0, vR 47 r1, vI (x2 + (1 : Int32))]) okX8_ways rfl rfl rfl rfl rfl rfl (jstp_virtual (sa := [vR 47 r1, vI (x2 + (1 : Int32))]) (st := []) (k := 0) rfl rfl sX8_ways okX8_ways g_1 (one41.k g_1) rfl rfl) w (fun h_15 _ _ w => ?_)
        exact jw_return rfl rfl w
      · replace w := w.2 c_10
        refine jw_gen (ls' := [none, none, none, none, none, none, none]) (st' := []) (trivial) (trivial) ?_
        exact w_X8_ways_122 w
  · replace w := w.2 c_5
    refine jw_aload_n (pc' := 34) rfl rfl ?_
    refine jw_getR (pc' := 37) (F := 204) (t' := 168) rfl rfl rfl rfl rfl g_1 ?_
    refine jw_iload_n (pc' := 38) rfl rfl ?_
    refine jw_iload (pc' := 40) rfl rfl ?_
    obtain ⟨g_18, w⟩ := w
    obtain ⟨g_19, w⟩ := w
    refine jw_iast' (pc' := 41) rfl rfl rfl rfl rfl g_18 g_19 (fun h_20 e_21 => ?_)
    replace w := w h_20 e_21
    refine jw_aload_n (pc' := 42) rfl rfl ?_
    refine jw_getI (pc' := 45) (F := 177) rfl rfl rfl rfl g_1 ?_
    refine jw_istore (pc' := 47) (ls' := [some (vR 41 r0), some (vR 47 r1), some (vI x2), some (vI x3), some (vI x4), some (vI (jfi h_20 177 r0)), none]) rfl (by decide) rfl ?_
    refine jw_aload_n (pc' := 48) rfl rfl ?_
    obtain ⟨g_22, w⟩ := w
    refine jw_getR (pc' := 51) (F := 288) (t' := 207) rfl rfl rfl rfl rfl g_22 ?_
    refine jw_iload_n (pc' := 52) rfl rfl ?_
    obtain ⟨g_23, w⟩ := w
    obtain ⟨g_24, w⟩ := w
    refine jw_aald (pc' := 53) (t' := 48) rfl rfl rfl rfl g_23 g_24.ix g_24.2 ?_
    refine jw_ifnull (tgt := 72) (pc' := 56) rfl rfl (fun c_25 => ?_) (fun c_25 => ?_)
    · replace w := w.1 c_25
      exact w_X8_ways_72 hK19 w
    · replace w := w.2 c_25
      refine jw_aload_n (pc' := 57) rfl rfl ?_
      refine jw_aload_n (pc' := 58) rfl rfl ?_
      refine jw_getR (pc' := 61) (F := 288) (t' := 207) rfl rfl rfl rfl rfl g_22 ?_
      refine jw_iload_n (pc' := 62) rfl rfl ?_
      obtain ⟨g_26, w⟩ := w
      refine jw_aald (pc' := 63) (t' := 48) rfl rfl rfl rfl g_23 g_26.ix g_26.2 ?_
      refine jw_cR (st := []) (sa := [vR 41 r0, vR 48 (jar h_20 (jfr h_20 288 r1) (ixn x2))]) okX8_eval rfl rfl rfl rfl rfl rfl (jstp_virtual (sa := [vR 48 (jar h_20 (jfr h_20 288 r1) (ixn x2))]) (st := []) (k := 0) rfl rfl sX8_eval okX8_eval g_1 (one41.k g_1) rfl rfl) w (fun v_29 h_27 _ _ _ w => ?_)
      refine jw_cI (st := []) (sa := [vR 46 v_29]) okX8_isTrue rfl rfl rfl rfl rfl rfl (jstp_static (sa := [vR 46 v_29]) (st := []) rfl rfl sX8_isTrue okX8_isTrue rfl rfl) w (fun v_32 h_30 _ _ w => ?_)
      refine jw_if_eq (tgt := 76) (pc' := 72) rfl rfl (fun c_33 => ?_) (fun c_33 => ?_)
      · replace w := w.1 c_33
        refine jw_iconst (pc' := 77) (x := (0 : Int32)) rfl rfl ?_
        exact w_X8_ways_77 hK19 w
      · replace w := w.2 c_33
        exact w_X8_ways_72 hK19 w
def L_X8_ways_19 (D : JD) (d : Nat) (Q : JO → JH → Prop) : Nat → Nat → Nat → Int32 → Int32 → Int32 → JH → Prop
  | 0 => fun _ _ _ _ _ _ => False
  | n + 1 => fun r0 r1 x2 x3 x4 h => W_X8_ways_19 D d Q (L_X8_ways_19 D d Q n) r0 r1 x2 x3 x4 h
theorem l_X8_ways_19 {D : JD} {d : Nat} {Q : JO → JH → Prop} : ∀ (n : Nat) (r0 : Nat) (r1 : Nat) (x2 : Int32) (x3 : Int32) (x4 : Int32) (h : JH), L_X8_ways_19 D d Q n r0 r1 x2 x3 x4 h → JW D (d + 1) mX8_ways 19 [some (vR 41 r0), some (vR 47 r1), some (vI x2), some (vI x3), some (vI x4), none, none] [] h Q := by
  intro n
  induction n with
  | zero => intro _ _ _ _ _ _ w; exact w.elim
  | succ n ih => intro _ _ _ _ _ h w; exact w_X8_ways_19 ih w
def W_X8_ways_0 (D : JD) (d : Nat) (Q : JO → JH → Prop) (r0 : Nat) (r1 : Nat) (x2 : Int32) (h : JH) : Prop :=
  r1 ≠ 0 ∧ ((¬ x2 = (jfi h 290 r1) → ∃ n, L_X8_ways_19 D d Q n r0 r1 x2 (0 : Int32) (0 : Int32) h) ∧ (x2 = (jfi h 290 r1) → r0 ≠ 0 ∧ (cX8_keepRow D d r0 r1 h (pV D h (fun h_4 => Q (.inl none) h_4) (jth Q)))))
theorem w_X8_ways_0 {D : JD} {d : Nat} {Q : JO → JH → Prop} {r0 : Nat} {r1 : Nat} {x2 : Int32} {h : JH} (w : W_X8_ways_0 D d Q r0 r1 x2 h) : JW D (d + 1) mX8_ways 0 [some (vR 41 r0), some (vR 47 r1), some (vI x2), none, none, none, none] [] h Q := by
  unfold W_X8_ways_0 at w
  refine jw_iload_n (pc' := 1) rfl rfl ?_
  refine jw_aload_n (pc' := 2) rfl rfl ?_
  obtain ⟨g_1, w⟩ := w
  refine jw_getI (pc' := 5) (F := 290) rfl rfl rfl rfl g_1 ?_
  refine jw_icmp_ne (tgt := 14) (pc' := 8) rfl rfl (fun c_2 => ?_) (fun c_2 => ?_)
  · replace w := w.1 c_2
    refine jw_iconst (pc' := 15) (x := (0 : Int32)) rfl rfl ?_
    refine jw_istore_n (pc' := 16) (ls' := [some (vR 41 r0), some (vR 47 r1), some (vI x2), some (vI (0 : Int32)), none, none, none]) rfl (by decide) rfl ?_
    refine jw_iconst (pc' := 17) (x := (0 : Int32)) rfl rfl ?_
    refine jw_istore (pc' := 19) (ls' := [some (vR 41 r0), some (vR 47 r1), some (vI x2), some (vI (0 : Int32)), some (vI (0 : Int32)), none, none]) rfl (by decide) rfl ?_
    obtain ⟨n, w⟩ := w
    exact l_X8_ways_19 n _ _ _ _ _ _ w
  · replace w := w.2 c_2
    refine jw_aload_n (pc' := 9) rfl rfl ?_
    refine jw_aload_n (pc' := 10) rfl rfl ?_
    obtain ⟨g_3, w⟩ := w
    refine jw_cV (st := []) (sa := [vR 41 r0, vR 47 r1]) okX8_keepRow rfl rfl rfl rfl rfl rfl (jstp_virtual (sa := [vR 47 r1]) (st := []) (k := 0) rfl rfl sX8_keepRow okX8_keepRow g_3 (one41.k g_3) rfl rfl) w (fun h_4 _ _ w => ?_)
    exact jw_return rfl rfl w
def T_X8_ways (D : JD) (d : Nat) (Q : JO → JH → Prop) (r0 : Nat) (r1 : Nat) (x2 : Int32) (h : JH) : Prop := W_X8_ways_0 D d Q r0 r1 x2 h
theorem t_X8_ways {D : JD} {d : Nat} {Q : JO → JH → Prop} {r0 : Nat} {r1 : Nat} {x2 : Int32} {h : JH} (w : T_X8_ways D d Q r0 r1 x2 h) : cX8_ways D (d + 1) r0 r1 x2 h Q := by
  unfold T_X8_ways at w
  unfold cX8_ways
  exact w_X8_ways_0 w
def W_X8_keepRow_139 (D : JD) (d : Nat) (Q : JO → JH → Prop) (K104 : Nat → Nat → Int32 → JH → Prop) (r0 : Nat) (r1 : Nat) (x2 : Int32) (q0 : Nat) (s1 : Int32) (s2 : Int32) (h : JH) : Prop :=
  q0 ≠ 0 ∧ jin s1 (jln h q0) ∧ ∀ h_3 : JH, h_3 = wai h q0 (ixn s1) s2 → (K104 r0 r1 (x2 + (1 : Int32)) h_3)
theorem w_X8_keepRow_139 {D : JD} {d : Nat} {Q : JO → JH → Prop} {K104 : Nat → Nat → Int32 → JH → Prop} {r0 : Nat} {r1 : Nat} {x2 : Int32} {q0 : Nat} {s1 : Int32} {s2 : Int32} {h : JH} (hK104 : ∀ (r0 : Nat) (r1 : Nat) (x2 : Int32) (h : JH), K104 r0 r1 x2 h → JW D (d + 1) mX8_keepRow 104 [some (vR 41 r0), some (vR 47 r1), some (vI x2), none, none] [] h Q) (w : W_X8_keepRow_139 D d Q K104 r0 r1 x2 q0 s1 s2 h) : JW D (d + 1) mX8_keepRow 139 [some (vR 41 r0), some (vR 47 r1), some (vI x2), none, none] [vI s2, vI s1, vR 170 q0] h Q := by
  unfold W_X8_keepRow_139 at w
  obtain ⟨g_1, w⟩ := w
  obtain ⟨g_2, w⟩ := w
  refine jw_iast' (pc' := 140) rfl rfl rfl rfl rfl g_1 g_2 (fun h_3 e_4 => ?_)
  replace w := w h_3 e_4
  refine jw_iinc (pc' := 143) (y := x2 + (1 : Int32)) (ls' := [some (vR 41 r0), some (vR 47 r1), some (vI (x2 + (1 : Int32))), none, none]) rfl (by decide) rfl rfl rfl ?_
  refine jw_goto (pc' := 104) rfl rfl ?_
  exact hK104 _ _ _ _ w
def W_X8_keepRow_104 (D : JD) (d : Nat) (Q : JO → JH → Prop) (K104 : Nat → Nat → Int32 → JH → Prop) (r0 : Nat) (r1 : Nat) (x2 : Int32) (h : JH) : Prop :=
  ((3 : Int32) ≤ x2 → r0 ≠ 0 ∧ (∀ h_3 : JH, h_3 = wfi h 209 r0 ((jfi h 209 r0) + (1 : Int32)) → (Q (.inl none) h_3))) ∧ (¬ (3 : Int32) ≤ x2 → r0 ≠ 0 ∧ (r1 ≠ 0 ∧ (((jfi h 290 r1) ≤ x2 → W_X8_keepRow_139 D d Q K104 r0 r1 x2 (jfr h 208 r0) (((3 : Int32) * (jfi h 209 r0)) + x2) (-1 : Int32) h) ∧ (¬ (jfi h 290 r1) ≤ x2 → (jfr h 204 r0) ≠ 0 ∧ jin x2 (jln h (jfr h 204 r0)) ∧ (W_X8_keepRow_139 D d Q K104 r0 r1 x2 (jfr h 208 r0) (((3 : Int32) * (jfi h 209 r0)) + x2) (jai h (jfr h 204 r0) (ixn x2)) h)))))
theorem w_X8_keepRow_104 {D : JD} {d : Nat} {Q : JO → JH → Prop} {K104 : Nat → Nat → Int32 → JH → Prop} {r0 : Nat} {r1 : Nat} {x2 : Int32} {h : JH} (hK104 : ∀ (r0 : Nat) (r1 : Nat) (x2 : Int32) (h : JH), K104 r0 r1 x2 h → JW D (d + 1) mX8_keepRow 104 [some (vR 41 r0), some (vR 47 r1), some (vI x2), none, none] [] h Q) (w : W_X8_keepRow_104 D d Q K104 r0 r1 x2 h) : JW D (d + 1) mX8_keepRow 104 [some (vR 41 r0), some (vR 47 r1), some (vI x2), none, none] [] h Q := by
  unfold W_X8_keepRow_104 at w
  refine jw_iload_n (pc' := 105) rfl rfl ?_
  refine jw_iconst (pc' := 106) (x := (3 : Int32)) rfl rfl ?_
  refine jw_icmp_ge (tgt := 146) (pc' := 109) rfl rfl (fun c_1 => ?_) (fun c_1 => ?_)
  · replace w := w.1 c_1
    refine jw_aload_n (pc' := 147) rfl rfl ?_
    refine jw_dup (pc' := 148) rfl rfl ?_
    obtain ⟨g_2, w⟩ := w
    refine jw_getI (pc' := 151) (F := 209) rfl rfl rfl rfl g_2 ?_
    refine jw_iconst (pc' := 152) (x := (1 : Int32)) rfl rfl ?_
    refine jw_iadd (pc' := 153) rfl ?_
    refine jw_putI' (pc' := 156) (F := 209) rfl rfl rfl (Or.inr rfl) (Or.inl rfl) rfl (rfl) (rfl) rfl g_2 (fun h_3 e_4 => ?_)
    replace w := w h_3 e_4
    exact jw_return rfl rfl w
  · replace w := w.2 c_1
    refine jw_aload_n (pc' := 110) rfl rfl ?_
    obtain ⟨g_5, w⟩ := w
    refine jw_getR (pc' := 113) (F := 208) (t' := 170) rfl rfl rfl rfl rfl g_5 ?_
    refine jw_iconst (pc' := 114) (x := (3 : Int32)) rfl rfl ?_
    refine jw_aload_n (pc' := 115) rfl rfl ?_
    refine jw_getI (pc' := 118) (F := 209) rfl rfl rfl rfl g_5 ?_
    refine jw_imul (pc' := 119) rfl ?_
    refine jw_iload_n (pc' := 120) rfl rfl ?_
    refine jw_iadd (pc' := 121) rfl ?_
    refine jw_iload_n (pc' := 122) rfl rfl ?_
    refine jw_aload_n (pc' := 123) rfl rfl ?_
    obtain ⟨g_6, w⟩ := w
    refine jw_getI (pc' := 126) (F := 290) rfl rfl rfl rfl g_6 ?_
    refine jw_icmp_ge (tgt := 138) (pc' := 129) rfl rfl (fun c_7 => ?_) (fun c_7 => ?_)
    · replace w := w.1 c_7
      refine jw_iconst (pc' := 139) (x := (-1 : Int32)) rfl rfl ?_
      exact w_X8_keepRow_139 hK104 w
    · replace w := w.2 c_7
      refine jw_aload_n (pc' := 130) rfl rfl ?_
      refine jw_getR (pc' := 133) (F := 204) (t' := 168) rfl rfl rfl rfl rfl g_5 ?_
      refine jw_iload_n (pc' := 134) rfl rfl ?_
      obtain ⟨g_8, w⟩ := w
      obtain ⟨g_9, w⟩ := w
      refine jw_iald (pc' := 135) rfl rfl rfl rfl g_8 g_9.ix g_9.2 ?_
      refine jw_goto (pc' := 139) rfl rfl ?_
      exact w_X8_keepRow_139 hK104 w
def L_X8_keepRow_104 (D : JD) (d : Nat) (Q : JO → JH → Prop) : Nat → Nat → Nat → Int32 → JH → Prop
  | 0 => fun _ _ _ _ => False
  | n + 1 => fun r0 r1 x2 h => W_X8_keepRow_104 D d Q (L_X8_keepRow_104 D d Q n) r0 r1 x2 h
theorem l_X8_keepRow_104 {D : JD} {d : Nat} {Q : JO → JH → Prop} : ∀ (n : Nat) (r0 : Nat) (r1 : Nat) (x2 : Int32) (h : JH), L_X8_keepRow_104 D d Q n r0 r1 x2 h → JW D (d + 1) mX8_keepRow 104 [some (vR 41 r0), some (vR 47 r1), some (vI x2), none, none] [] h Q := by
  intro n
  induction n with
  | zero => intro _ _ _ _ w; exact w.elim
  | succ n ih => intro _ _ _ h w; exact w_X8_keepRow_104 ih w
def W_X8_keepRow_102 (D : JD) (d : Nat) (Q : JO → JH → Prop) (r0 : Nat) (r1 : Nat) (h : JH) : Prop :=
  ∃ n, L_X8_keepRow_104 D d Q n r0 r1 (0 : Int32) h
theorem w_X8_keepRow_102 {D : JD} {d : Nat} {Q : JO → JH → Prop} {r0 : Nat} {r1 : Nat} {h : JH} (w : W_X8_keepRow_102 D d Q r0 r1 h) : JW D (d + 1) mX8_keepRow 102 [some (vR 41 r0), some (vR 47 r1), none, none, none] [] h Q := by
  unfold W_X8_keepRow_102 at w
  refine jw_iconst (pc' := 103) (x := (0 : Int32)) rfl rfl ?_
  refine jw_istore_n (pc' := 104) (ls' := [some (vR 41 r0), some (vR 47 r1), some (vI (0 : Int32)), none, none]) rfl (by decide) rfl ?_
  obtain ⟨n, w⟩ := w
  exact l_X8_keepRow_104 n _ _ _ _ w
def W_X8_keepRow_70 (D : JD) (d : Nat) (Q : JO → JH → Prop) (K70 : Nat → Nat → Nat → Int32 → JH → Prop) (r0 : Nat) (r1 : Nat) (r3 : Nat) (x4 : Int32) (h : JH) : Prop :=
  r0 ≠ 0 ∧ ((jfr h 210 r0) ≠ 0 ∧ (((nI (jln h (jfr h 210 r0))) ≤ x4 → ∀ h_4 : JH, h_4 = wfr h 210 r0 r3 → (W_X8_keepRow_102 D d Q r0 r1 h_4)) ∧ (¬ (nI (jln h (jfr h 210 r0))) ≤ x4 → jin x4 (jln h (jfr h 210 r0)) ∧ (r3 ≠ 0 ∧ jin x4 (jln h r3) ∧ ∀ h_9 : JH, h_9 = wai h r3 (ixn x4) (jai h (jfr h 210 r0) (ixn x4)) → (K70 r0 r1 r3 (x4 + (1 : Int32)) h_9)))))
theorem w_X8_keepRow_70 {D : JD} {d : Nat} {Q : JO → JH → Prop} {K70 : Nat → Nat → Nat → Int32 → JH → Prop} {r0 : Nat} {r1 : Nat} {r3 : Nat} {x4 : Int32} {h : JH} (hK70 : ∀ (r0 : Nat) (r1 : Nat) (r3 : Nat) (x4 : Int32) (h : JH), K70 r0 r1 r3 x4 h → JW D (d + 1) mX8_keepRow 70 [some (vR 41 r0), some (vR 47 r1), none, some (vR 171 r3), some (vI x4)] [] h Q) (w : W_X8_keepRow_70 D d Q K70 r0 r1 r3 x4 h) : JW D (d + 1) mX8_keepRow 70 [some (vR 41 r0), some (vR 47 r1), none, some (vR 171 r3), some (vI x4)] [] h Q := by
  unfold W_X8_keepRow_70 at w
  refine jw_iload (pc' := 72) rfl rfl ?_
  refine jw_aload_n (pc' := 73) rfl rfl ?_
  obtain ⟨g_1, w⟩ := w
  refine jw_getR (pc' := 76) (F := 210) (t' := 171) rfl rfl rfl rfl rfl g_1 ?_
  obtain ⟨g_2, w⟩ := w
  refine jw_alen (pc' := 77) rfl rfl g_2 ?_
  refine jw_icmp_ge (tgt := 97) (pc' := 80) rfl rfl (fun c_3 => ?_) (fun c_3 => ?_)
  · replace w := w.1 c_3
    refine jw_aload_n (pc' := 98) rfl rfl ?_
    refine jw_aload_n (pc' := 99) rfl rfl ?_
    refine jw_putR' (pc' := 102) (F := 210) rfl rfl rfl (Or.inr rfl) (Or.inl rfl) rfl rfl rfl g_1 (fun h_4 e_5 => ?_)
    replace w := w h_4 e_5
    refine jw_gen (ls' := [some (vR 41 r0), some (vR 47 r1), none, none, none]) (st' := []) (And.intro (Or.inl rfl) (And.intro (Or.inl rfl) (trivial))) (trivial) ?_
    exact w_X8_keepRow_102 w
  · replace w := w.2 c_3
    refine jw_aload_n (pc' := 81) rfl rfl ?_
    refine jw_iload (pc' := 83) rfl rfl ?_
    refine jw_aload_n (pc' := 84) rfl rfl ?_
    refine jw_getR (pc' := 87) (F := 210) (t' := 171) rfl rfl rfl rfl rfl g_1 ?_
    refine jw_iload (pc' := 89) rfl rfl ?_
    obtain ⟨g_6, w⟩ := w
    refine jw_iald (pc' := 90) rfl rfl rfl rfl g_2 g_6.ix g_6.2 ?_
    obtain ⟨g_7, w⟩ := w
    obtain ⟨g_8, w⟩ := w
    refine jw_iast' (pc' := 91) rfl rfl rfl rfl rfl g_7 g_8 (fun h_9 e_10 => ?_)
    replace w := w h_9 e_10
    refine jw_iinc (pc' := 94) (y := x4 + (1 : Int32)) (ls' := [some (vR 41 r0), some (vR 47 r1), none, some (vR 171 r3), some (vI (x4 + (1 : Int32)))]) rfl (by decide) rfl rfl rfl ?_
    refine jw_goto (pc' := 70) rfl rfl ?_
    exact hK70 _ _ _ _ _ w
def L_X8_keepRow_70 (D : JD) (d : Nat) (Q : JO → JH → Prop) : Nat → Nat → Nat → Nat → Int32 → JH → Prop
  | 0 => fun _ _ _ _ _ => False
  | n + 1 => fun r0 r1 r3 x4 h => W_X8_keepRow_70 D d Q (L_X8_keepRow_70 D d Q n) r0 r1 r3 x4 h
theorem l_X8_keepRow_70 {D : JD} {d : Nat} {Q : JO → JH → Prop} : ∀ (n : Nat) (r0 : Nat) (r1 : Nat) (r3 : Nat) (x4 : Int32) (h : JH), L_X8_keepRow_70 D d Q n r0 r1 r3 x4 h → JW D (d + 1) mX8_keepRow 70 [some (vR 41 r0), some (vR 47 r1), none, some (vR 171 r3), some (vI x4)] [] h Q := by
  intro n
  induction n with
  | zero => intro _ _ _ _ _ w; exact w.elim
  | succ n ih => intro _ _ _ _ h w; exact w_X8_keepRow_70 ih w
def W_X8_keepRow_28 (D : JD) (d : Nat) (Q : JO → JH → Prop) (K28 : Nat → Nat → Nat → Int32 → JH → Prop) (r0 : Nat) (r1 : Nat) (r2 : Nat) (x3 : Int32) (h : JH) : Prop :=
  r0 ≠ 0 ∧ ((jfr h 208 r0) ≠ 0 ∧ (((nI (jln h (jfr h 208 r0))) ≤ x3 → ∀ h_4 : JH, h_4 = wfr h 208 r0 r2 → ((jfr h_4 210 r0) ≠ 0 ∧ (jsm ((2 : Int32) * (nI (jln h_4 (jfr h_4 210 r0)))) ∧ ∀ (r_7 : Nat) (h_8 : JH), r_7 = jsz h_4 + 1 → h_8 = nwa h_4 171 (ixn ((2 : Int32) * (nI (jln h_4 (jfr h_4 210 r0))))) → (∃ n, L_X8_keepRow_70 D d Q n r0 r1 r_7 (0 : Int32) h_8)))) ∧ (¬ (nI (jln h (jfr h 208 r0))) ≤ x3 → jin x3 (jln h (jfr h 208 r0)) ∧ (r2 ≠ 0 ∧ jin x3 (jln h r2) ∧ ∀ h_15 : JH, h_15 = wai h r2 (ixn x3) (jai h (jfr h 208 r0) (ixn x3)) → (K28 r0 r1 r2 (x3 + (1 : Int32)) h_15)))))
theorem w_X8_keepRow_28 {D : JD} {d : Nat} {Q : JO → JH → Prop} {K28 : Nat → Nat → Nat → Int32 → JH → Prop} {r0 : Nat} {r1 : Nat} {r2 : Nat} {x3 : Int32} {h : JH} (hK28 : ∀ (r0 : Nat) (r1 : Nat) (r2 : Nat) (x3 : Int32) (h : JH), K28 r0 r1 r2 x3 h → JW D (d + 1) mX8_keepRow 28 [some (vR 41 r0), some (vR 47 r1), some (vR 170 r2), some (vI x3), none] [] h Q) (w : W_X8_keepRow_28 D d Q K28 r0 r1 r2 x3 h) : JW D (d + 1) mX8_keepRow 28 [some (vR 41 r0), some (vR 47 r1), some (vR 170 r2), some (vI x3), none] [] h Q := by
  unfold W_X8_keepRow_28 at w
  refine jw_iload_n (pc' := 29) rfl rfl ?_
  refine jw_aload_n (pc' := 30) rfl rfl ?_
  obtain ⟨g_1, w⟩ := w
  refine jw_getR (pc' := 33) (F := 208) (t' := 170) rfl rfl rfl rfl rfl g_1 ?_
  obtain ⟨g_2, w⟩ := w
  refine jw_alen (pc' := 34) rfl rfl g_2 ?_
  refine jw_icmp_ge (tgt := 52) (pc' := 37) rfl rfl (fun c_3 => ?_) (fun c_3 => ?_)
  · replace w := w.1 c_3
    refine jw_aload_n (pc' := 53) rfl rfl ?_
    refine jw_aload_n (pc' := 54) rfl rfl ?_
    refine jw_putR' (pc' := 57) (F := 208) rfl rfl rfl (Or.inr rfl) (Or.inl rfl) rfl rfl rfl g_1 (fun h_4 e_5 => ?_)
    replace w := w h_4 e_5
    refine jw_iconst (pc' := 58) (x := (2 : Int32)) rfl rfl ?_
    refine jw_aload_n (pc' := 59) rfl rfl ?_
    refine jw_getR (pc' := 62) (F := 210) (t' := 171) rfl rfl rfl rfl rfl g_1 ?_
    obtain ⟨g_6, w⟩ := w
    refine jw_alen (pc' := 63) rfl rfl g_6 ?_
    refine jw_imul (pc' := 64) rfl ?_
    obtain ⟨g_11, w⟩ := w
    refine jw_newa' (pc' := 66) (n := ixn ((2 : Int32) * (nI (jln h_4 (jfr h_4 210 r0))))) (k := 171) rfl rfl rfl rfl rfl rfl (lw_g (jtb_mem (c := 2) (i := 11) rfl) rfl) g_11.ix g_11.b4 (fun r_7 h_8 e_9 e_10 => ?_)
    replace w := w r_7 h_8 e_9 e_10
    refine jw_astore_n (pc' := 67) (ls' := [some (vR 41 r0), some (vR 47 r1), some (vR 170 r2), some (vR 171 r_7), none]) rfl (by decide) rfl ?_
    refine jw_iconst (pc' := 68) (x := (0 : Int32)) rfl rfl ?_
    refine jw_istore (pc' := 70) (ls' := [some (vR 41 r0), some (vR 47 r1), some (vR 170 r2), some (vR 171 r_7), some (vI (0 : Int32))]) rfl (by decide) rfl ?_
    refine jw_gen (ls' := [some (vR 41 r0), some (vR 47 r1), none, some (vR 171 r_7), some (vI (0 : Int32))]) (st' := []) (And.intro (Or.inl rfl) (And.intro (Or.inl rfl) (And.intro (Or.inl rfl) (And.intro (Or.inl rfl) (trivial))))) (trivial) ?_
    obtain ⟨n, w⟩ := w
    exact l_X8_keepRow_70 n _ _ _ _ _ w
  · replace w := w.2 c_3
    refine jw_aload_n (pc' := 38) rfl rfl ?_
    refine jw_iload_n (pc' := 39) rfl rfl ?_
    refine jw_aload_n (pc' := 40) rfl rfl ?_
    refine jw_getR (pc' := 43) (F := 208) (t' := 170) rfl rfl rfl rfl rfl g_1 ?_
    refine jw_iload_n (pc' := 44) rfl rfl ?_
    obtain ⟨g_12, w⟩ := w
    refine jw_iald (pc' := 45) rfl rfl rfl rfl g_2 g_12.ix g_12.2 ?_
    obtain ⟨g_13, w⟩ := w
    obtain ⟨g_14, w⟩ := w
    refine jw_iast' (pc' := 46) rfl rfl rfl rfl rfl g_13 g_14 (fun h_15 e_16 => ?_)
    replace w := w h_15 e_16
    refine jw_iinc (pc' := 49) (y := x3 + (1 : Int32)) (ls' := [some (vR 41 r0), some (vR 47 r1), some (vR 170 r2), some (vI (x3 + (1 : Int32))), none]) rfl (by decide) rfl rfl rfl ?_
    refine jw_goto (pc' := 28) rfl rfl ?_
    exact hK28 _ _ _ _ _ w
def L_X8_keepRow_28 (D : JD) (d : Nat) (Q : JO → JH → Prop) : Nat → Nat → Nat → Nat → Int32 → JH → Prop
  | 0 => fun _ _ _ _ _ => False
  | n + 1 => fun r0 r1 r2 x3 h => W_X8_keepRow_28 D d Q (L_X8_keepRow_28 D d Q n) r0 r1 r2 x3 h
theorem l_X8_keepRow_28 {D : JD} {d : Nat} {Q : JO → JH → Prop} : ∀ (n : Nat) (r0 : Nat) (r1 : Nat) (r2 : Nat) (x3 : Int32) (h : JH), L_X8_keepRow_28 D d Q n r0 r1 r2 x3 h → JW D (d + 1) mX8_keepRow 28 [some (vR 41 r0), some (vR 47 r1), some (vR 170 r2), some (vI x3), none] [] h Q := by
  intro n
  induction n with
  | zero => intro _ _ _ _ _ w; exact w.elim
  | succ n ih => intro _ _ _ _ h w; exact w_X8_keepRow_28 ih w
def W_X8_keepRow_0 (D : JD) (d : Nat) (Q : JO → JH → Prop) (r0 : Nat) (r1 : Nat) (h : JH) : Prop :=
  r0 ≠ 0 ∧ ((jfr h 208 r0) ≠ 0 ∧ (((((3 : Int32) * (jfi h 209 r0)) + (3 : Int32)) ≤ (nI (jln h (jfr h 208 r0))) → W_X8_keepRow_102 D d Q r0 r1 h) ∧ (¬ (((3 : Int32) * (jfi h 209 r0)) + (3 : Int32)) ≤ (nI (jln h (jfr h 208 r0))) → jsm ((2 : Int32) * (nI (jln h (jfr h 208 r0)))) ∧ ∀ (r_4 : Nat) (h_5 : JH), r_4 = jsz h + 1 → h_5 = nwa h 170 (ixn ((2 : Int32) * (nI (jln h (jfr h 208 r0))))) → (∃ n, L_X8_keepRow_28 D d Q n r0 r1 r_4 (0 : Int32) h_5))))
theorem w_X8_keepRow_0 {D : JD} {d : Nat} {Q : JO → JH → Prop} {r0 : Nat} {r1 : Nat} {h : JH} (w : W_X8_keepRow_0 D d Q r0 r1 h) : JW D (d + 1) mX8_keepRow 0 [some (vR 41 r0), some (vR 47 r1), none, none, none] [] h Q := by
  unfold W_X8_keepRow_0 at w
  refine jw_iconst (pc' := 1) (x := (3 : Int32)) rfl rfl ?_
  refine jw_aload_n (pc' := 2) rfl rfl ?_
  obtain ⟨g_1, w⟩ := w
  refine jw_getI (pc' := 5) (F := 209) rfl rfl rfl rfl g_1 ?_
  refine jw_imul (pc' := 6) rfl ?_
  refine jw_iconst (pc' := 7) (x := (3 : Int32)) rfl rfl ?_
  refine jw_iadd (pc' := 8) rfl ?_
  refine jw_aload_n (pc' := 9) rfl rfl ?_
  refine jw_getR (pc' := 12) (F := 208) (t' := 170) rfl rfl rfl rfl rfl g_1 ?_
  obtain ⟨g_2, w⟩ := w
  refine jw_alen (pc' := 13) rfl rfl g_2 ?_
  refine jw_icmp_le (tgt := 102) (pc' := 16) rfl rfl (fun c_3 => ?_) (fun c_3 => ?_)
  · replace w := w.1 c_3
    exact w_X8_keepRow_102 w
  · replace w := w.2 c_3
    refine jw_iconst (pc' := 17) (x := (2 : Int32)) rfl rfl ?_
    refine jw_aload_n (pc' := 18) rfl rfl ?_
    refine jw_getR (pc' := 21) (F := 208) (t' := 170) rfl rfl rfl rfl rfl g_1 ?_
    refine jw_alen (pc' := 22) rfl rfl g_2 ?_
    refine jw_imul (pc' := 23) rfl ?_
    obtain ⟨g_8, w⟩ := w
    refine jw_newa' (pc' := 25) (n := ixn ((2 : Int32) * (nI (jln h (jfr h 208 r0))))) (k := 170) rfl rfl rfl rfl rfl rfl (lw_g (jtb_mem (c := 2) (i := 11) rfl) rfl) g_8.ix g_8.b4 (fun r_4 h_5 e_6 e_7 => ?_)
    replace w := w r_4 h_5 e_6 e_7
    refine jw_astore_n (pc' := 26) (ls' := [some (vR 41 r0), some (vR 47 r1), some (vR 170 r_4), none, none]) rfl (by decide) rfl ?_
    refine jw_iconst (pc' := 27) (x := (0 : Int32)) rfl rfl ?_
    refine jw_istore_n (pc' := 28) (ls' := [some (vR 41 r0), some (vR 47 r1), some (vR 170 r_4), some (vI (0 : Int32)), none]) rfl (by decide) rfl ?_
    obtain ⟨n, w⟩ := w
    exact l_X8_keepRow_28 n _ _ _ _ _ w
def T_X8_keepRow (D : JD) (d : Nat) (Q : JO → JH → Prop) (r0 : Nat) (r1 : Nat) (h : JH) : Prop := W_X8_keepRow_0 D d Q r0 r1 h
theorem t_X8_keepRow {D : JD} {d : Nat} {Q : JO → JH → Prop} {r0 : Nat} {r1 : Nat} {h : JH} (w : T_X8_keepRow D d Q r0 r1 h) : cX8_keepRow D (d + 1) r0 r1 h Q := by
  unfold T_X8_keepRow at w
  unfold cX8_keepRow
  exact w_X8_keepRow_0 w
def W_X8_filter_98 (D : JD) (d : Nat) (Q : JO → JH → Prop) (K12 : Nat → Nat → Int32 → Int32 → JH → Prop) (r0 : Nat) (r1 : Nat) (x2 : Int32) (x3 : Int32) (h : JH) : Prop :=
  K12 r0 r1 x2 (x3 + (1 : Int32)) h
theorem w_X8_filter_98 {D : JD} {d : Nat} {Q : JO → JH → Prop} {K12 : Nat → Nat → Int32 → Int32 → JH → Prop} {r0 : Nat} {r1 : Nat} {x2 : Int32} {x3 : Int32} {h : JH} (hK12 : ∀ (r0 : Nat) (r1 : Nat) (x2 : Int32) (x3 : Int32) (h : JH), K12 r0 r1 x2 x3 h → JW D (d + 1) mX8_filter 12 [some (vR 41 r0), some (vR 47 r1), some (vI x2), some (vI x3), none, none, none] [] h Q) (w : W_X8_filter_98 D d Q K12 r0 r1 x2 x3 h) : JW D (d + 1) mX8_filter 98 [some (vR 41 r0), some (vR 47 r1), some (vI x2), some (vI x3), none, none, none] [] h Q := by
  unfold W_X8_filter_98 at w
  refine jw_iinc (pc' := 101) (y := x3 + (1 : Int32)) (ls' := [some (vR 41 r0), some (vR 47 r1), some (vI x2), some (vI (x3 + (1 : Int32))), none, none, none]) rfl (by decide) rfl rfl rfl ?_
  refine jw_goto (pc' := 12) rfl rfl ?_
  exact hK12 _ _ _ _ _ w
def W_X8_filter_61 (D : JD) (d : Nat) (Q : JO → JH → Prop) (K12 : Nat → Nat → Int32 → Int32 → JH → Prop) (K61 : Nat → Nat → Int32 → Int32 → Int32 → JH → Prop) (r0 : Nat) (r1 : Nat) (x2 : Int32) (x3 : Int32) (x6 : Int32) (h : JH) : Prop :=
  ((3 : Int32) ≤ x6 → W_X8_filter_98 D d Q K12 r0 r1 (x2 + (1 : Int32)) x3 h) ∧ (¬ (3 : Int32) ≤ x6 → r0 ≠ 0 ∧ ((jfr h 208 r0) ≠ 0 ∧ jin (((3 : Int32) * x3) + x6) (jln h (jfr h 208 r0)) ∧ (jin (((3 : Int32) * x2) + x6) (jln h (jfr h 208 r0)) ∧ ∀ h_6 : JH, h_6 = wai h (jfr h 208 r0) (ixn (((3 : Int32) * x2) + x6)) (jai h (jfr h 208 r0) (ixn (((3 : Int32) * x3) + x6))) → (K61 r0 r1 x2 x3 (x6 + (1 : Int32)) h_6))))
theorem w_X8_filter_61 {D : JD} {d : Nat} {Q : JO → JH → Prop} {K12 : Nat → Nat → Int32 → Int32 → JH → Prop} {K61 : Nat → Nat → Int32 → Int32 → Int32 → JH → Prop} {r0 : Nat} {r1 : Nat} {x2 : Int32} {x3 : Int32} {x6 : Int32} {h : JH} (hK12 : ∀ (r0 : Nat) (r1 : Nat) (x2 : Int32) (x3 : Int32) (h : JH), K12 r0 r1 x2 x3 h → JW D (d + 1) mX8_filter 12 [some (vR 41 r0), some (vR 47 r1), some (vI x2), some (vI x3), none, none, none] [] h Q) (hK61 : ∀ (r0 : Nat) (r1 : Nat) (x2 : Int32) (x3 : Int32) (x6 : Int32) (h : JH), K61 r0 r1 x2 x3 x6 h → JW D (d + 1) mX8_filter 61 [some (vR 41 r0), some (vR 47 r1), some (vI x2), some (vI x3), none, none, some (vI x6)] [] h Q) (w : W_X8_filter_61 D d Q K12 K61 r0 r1 x2 x3 x6 h) : JW D (d + 1) mX8_filter 61 [some (vR 41 r0), some (vR 47 r1), some (vI x2), some (vI x3), none, none, some (vI x6)] [] h Q := by
  unfold W_X8_filter_61 at w
  refine jw_iload (pc' := 63) rfl rfl ?_
  refine jw_iconst (pc' := 64) (x := (3 : Int32)) rfl rfl ?_
  refine jw_icmp_ge (tgt := 95) (pc' := 67) rfl rfl (fun c_1 => ?_) (fun c_1 => ?_)
  · replace w := w.1 c_1
    refine jw_iinc (pc' := 98) (y := x2 + (1 : Int32)) (ls' := [some (vR 41 r0), some (vR 47 r1), some (vI (x2 + (1 : Int32))), some (vI x3), none, none, some (vI x6)]) rfl (by decide) rfl rfl rfl ?_
    refine jw_gen (ls' := [some (vR 41 r0), some (vR 47 r1), some (vI (x2 + (1 : Int32))), some (vI x3), none, none, none]) (st' := []) (And.intro (Or.inl rfl) (And.intro (Or.inl rfl) (And.intro (Or.inl rfl) (And.intro (Or.inl rfl) (trivial))))) (trivial) ?_
    exact w_X8_filter_98 hK12 w
  · replace w := w.2 c_1
    refine jw_aload_n (pc' := 68) rfl rfl ?_
    obtain ⟨g_2, w⟩ := w
    refine jw_getR (pc' := 71) (F := 208) (t' := 170) rfl rfl rfl rfl rfl g_2 ?_
    refine jw_iconst (pc' := 72) (x := (3 : Int32)) rfl rfl ?_
    refine jw_iload_n (pc' := 73) rfl rfl ?_
    refine jw_imul (pc' := 74) rfl ?_
    refine jw_iload (pc' := 76) rfl rfl ?_
    refine jw_iadd (pc' := 77) rfl ?_
    refine jw_aload_n (pc' := 78) rfl rfl ?_
    refine jw_getR (pc' := 81) (F := 208) (t' := 170) rfl rfl rfl rfl rfl g_2 ?_
    refine jw_iconst (pc' := 82) (x := (3 : Int32)) rfl rfl ?_
    refine jw_iload_n (pc' := 83) rfl rfl ?_
    refine jw_imul (pc' := 84) rfl ?_
    refine jw_iload (pc' := 86) rfl rfl ?_
    refine jw_iadd (pc' := 87) rfl ?_
    obtain ⟨g_3, w⟩ := w
    obtain ⟨g_4, w⟩ := w
    refine jw_iald (pc' := 88) rfl rfl rfl rfl g_3 g_4.ix g_4.2 ?_
    obtain ⟨g_5, w⟩ := w
    refine jw_iast' (pc' := 89) rfl rfl rfl rfl rfl g_3 g_5 (fun h_6 e_7 => ?_)
    replace w := w h_6 e_7
    refine jw_iinc (pc' := 92) (y := x6 + (1 : Int32)) (ls' := [some (vR 41 r0), some (vR 47 r1), some (vI x2), some (vI x3), none, none, some (vI (x6 + (1 : Int32)))]) rfl (by decide) rfl rfl rfl ?_
    refine jw_goto (pc' := 61) rfl rfl ?_
    exact hK61 _ _ _ _ _ _ w
def L_X8_filter_61 (D : JD) (d : Nat) (Q : JO → JH → Prop) (K12 : Nat → Nat → Int32 → Int32 → JH → Prop) : Nat → Nat → Nat → Int32 → Int32 → Int32 → JH → Prop
  | 0 => fun _ _ _ _ _ _ => False
  | n + 1 => fun r0 r1 x2 x3 x6 h => W_X8_filter_61 D d Q K12 (L_X8_filter_61 D d Q K12 n) r0 r1 x2 x3 x6 h
theorem l_X8_filter_61 {D : JD} {d : Nat} {Q : JO → JH → Prop} {K12 : Nat → Nat → Int32 → Int32 → JH → Prop} (hK12 : ∀ (r0 : Nat) (r1 : Nat) (x2 : Int32) (x3 : Int32) (h : JH), K12 r0 r1 x2 x3 h → JW D (d + 1) mX8_filter 12 [some (vR 41 r0), some (vR 47 r1), some (vI x2), some (vI x3), none, none, none] [] h Q) : ∀ (n : Nat) (r0 : Nat) (r1 : Nat) (x2 : Int32) (x3 : Int32) (x6 : Int32) (h : JH), L_X8_filter_61 D d Q K12 n r0 r1 x2 x3 x6 h → JW D (d + 1) mX8_filter 61 [some (vR 41 r0), some (vR 47 r1), some (vI x2), some (vI x3), none, none, some (vI x6)] [] h Q := by
  intro n
  induction n with
  | zero => intro _ _ _ _ _ _ w; exact w.elim
  | succ n ih => intro _ _ _ _ _ h w; exact w_X8_filter_61 hK12 ih w
def W_X8_filter_12 (D : JD) (d : Nat) (Q : JO → JH → Prop) (K12 : Nat → Nat → Int32 → Int32 → JH → Prop) (r0 : Nat) (r1 : Nat) (x2 : Int32) (x3 : Int32) (h : JH) : Prop :=
  r0 ≠ 0 ∧ (((jfi h 209 r0) ≤ x3 → ∀ h_3 : JH, h_3 = wfi h 209 r0 x2 → (Q (.inl none) h_3)) ∧ (¬ (jfi h 209 r0) ≤ x3 → cX8_useRow D d r0 x3 h (pV D h (fun h_5 => r1 ≠ 0 ∧ (cX8_eval D d r0 (jfr h_5 282 r1) h_5 (pR D h_5 46 (fun v_11 h_9 => cX8_isTrue D d v_11 h_9 (pI D h_9 (fun v_14 h_12 => ∀ h_15 : JH, h_15 = wfi h_12 177 r0 (jfi h_5 177 r0) → ((¬ v_14 = 0 → ∃ n, L_X8_filter_61 D d Q K12 n r0 r1 x2 x3 (0 : Int32) h_15) ∧ (v_14 = 0 → W_X8_filter_98 D d Q K12 r0 r1 x2 x3 h_15))) (jth Q))) (jth Q)))) (jth Q))))
theorem w_X8_filter_12 {D : JD} {d : Nat} {Q : JO → JH → Prop} {K12 : Nat → Nat → Int32 → Int32 → JH → Prop} {r0 : Nat} {r1 : Nat} {x2 : Int32} {x3 : Int32} {h : JH} (hK12 : ∀ (r0 : Nat) (r1 : Nat) (x2 : Int32) (x3 : Int32) (h : JH), K12 r0 r1 x2 x3 h → JW D (d + 1) mX8_filter 12 [some (vR 41 r0), some (vR 47 r1), some (vI x2), some (vI x3), none, none, none] [] h Q) (w : W_X8_filter_12 D d Q K12 r0 r1 x2 x3 h) : JW D (d + 1) mX8_filter 12 [some (vR 41 r0), some (vR 47 r1), some (vI x2), some (vI x3), none, none, none] [] h Q := by
  unfold W_X8_filter_12 at w
  refine jw_iload_n (pc' := 13) rfl rfl ?_
  refine jw_aload_n (pc' := 14) rfl rfl ?_
  obtain ⟨g_1, w⟩ := w
  refine jw_getI (pc' := 17) (F := 209) rfl rfl rfl rfl g_1 ?_
  refine jw_icmp_ge (tgt := 104) (pc' := 20) rfl rfl (fun c_2 => ?_) (fun c_2 => ?_)
  · replace w := w.1 c_2
    refine jw_aload_n (pc' := 105) rfl rfl ?_
    refine jw_iload_n (pc' := 106) rfl rfl ?_
    refine jw_putI' (pc' := 109) (F := 209) rfl rfl rfl (Or.inr rfl) (Or.inl rfl) rfl (rfl) (rfl) rfl g_1 (fun h_3 e_4 => ?_)
    replace w := w h_3 e_4
    exact jw_return rfl rfl w
  · replace w := w.2 c_2
    refine jw_aload_n (pc' := 21) rfl rfl ?_
    refine jw_iload_n (pc' := 22) rfl rfl ?_
    refine jw_cV (st := []) (sa := [vR 41 r0, vI x3]) okX8_useRow rfl rfl rfl rfl rfl rfl (jstp_virtual (sa := [vI x3]) (st := []) (k := 0) rfl rfl sX8_useRow okX8_useRow g_1 (one41.k g_1) rfl rfl) w (fun h_5 _ _ w => ?_)
    refine jw_aload_n (pc' := 26) rfl rfl ?_
    refine jw_getI (pc' := 29) (F := 177) rfl rfl rfl rfl g_1 ?_
    refine jw_istore (pc' := 31) (ls' := [some (vR 41 r0), some (vR 47 r1), some (vI x2), some (vI x3), some (vI (jfi h_5 177 r0)), none, none]) rfl (by decide) rfl ?_
    refine jw_aload_n (pc' := 32) rfl rfl ?_
    refine jw_aload_n (pc' := 33) rfl rfl ?_
    obtain ⟨g_8, w⟩ := w
    refine jw_getR (pc' := 36) (F := 282) (t' := 48) rfl rfl rfl rfl rfl g_8 ?_
    refine jw_cR (st := []) (sa := [vR 41 r0, vR 48 (jfr h_5 282 r1)]) okX8_eval rfl rfl rfl rfl rfl rfl (jstp_virtual (sa := [vR 48 (jfr h_5 282 r1)]) (st := []) (k := 0) rfl rfl sX8_eval okX8_eval g_1 (one41.k g_1) rfl rfl) w (fun v_11 h_9 _ _ _ w => ?_)
    refine jw_cI (st := []) (sa := [vR 46 v_11]) okX8_isTrue rfl rfl rfl rfl rfl rfl (jstp_static (sa := [vR 46 v_11]) (st := []) rfl rfl sX8_isTrue okX8_isTrue rfl rfl) w (fun v_14 h_12 _ _ w => ?_)
    refine jw_istore (pc' := 44) (ls' := [some (vR 41 r0), some (vR 47 r1), some (vI x2), some (vI x3), some (vI (jfi h_5 177 r0)), some (vI v_14), none]) rfl (by decide) rfl ?_
    refine jw_aload_n (pc' := 45) rfl rfl ?_
    refine jw_iload (pc' := 47) rfl rfl ?_
    refine jw_putI' (pc' := 50) (F := 177) rfl rfl rfl (Or.inr rfl) (Or.inl rfl) rfl (rfl) (rfl) rfl g_1 (fun h_15 e_16 => ?_)
    replace w := w h_15 e_16
    refine jw_iload (pc' := 52) rfl rfl ?_
    refine jw_if_ne (tgt := 58) (pc' := 55) rfl rfl (fun c_17 => ?_) (fun c_17 => ?_)
    · replace w := w.1 c_17
      refine jw_iconst (pc' := 59) (x := (0 : Int32)) rfl rfl ?_
      refine jw_istore (pc' := 61) (ls' := [some (vR 41 r0), some (vR 47 r1), some (vI x2), some (vI x3), some (vI (jfi h_5 177 r0)), some (vI v_14), some (vI (0 : Int32))]) rfl (by decide) rfl ?_
      refine jw_gen (ls' := [some (vR 41 r0), some (vR 47 r1), some (vI x2), some (vI x3), none, none, some (vI (0 : Int32))]) (st' := []) (And.intro (Or.inl rfl) (And.intro (Or.inl rfl) (And.intro (Or.inl rfl) (And.intro (Or.inl rfl) (And.intro (Or.inl rfl) (trivial)))))) (trivial) ?_
      obtain ⟨n, w⟩ := w
      exact l_X8_filter_61 hK12 n _ _ _ _ _ _ w
    · replace w := w.2 c_17
      refine jw_goto (pc' := 98) rfl rfl ?_
      refine jw_gen (ls' := [some (vR 41 r0), some (vR 47 r1), some (vI x2), some (vI x3), none, none, none]) (st' := []) (And.intro (Or.inl rfl) (And.intro (Or.inl rfl) (And.intro (Or.inl rfl) (And.intro (Or.inl rfl) (trivial))))) (trivial) ?_
      exact w_X8_filter_98 hK12 w
def L_X8_filter_12 (D : JD) (d : Nat) (Q : JO → JH → Prop) : Nat → Nat → Nat → Int32 → Int32 → JH → Prop
  | 0 => fun _ _ _ _ _ => False
  | n + 1 => fun r0 r1 x2 x3 h => W_X8_filter_12 D d Q (L_X8_filter_12 D d Q n) r0 r1 x2 x3 h
theorem l_X8_filter_12 {D : JD} {d : Nat} {Q : JO → JH → Prop} : ∀ (n : Nat) (r0 : Nat) (r1 : Nat) (x2 : Int32) (x3 : Int32) (h : JH), L_X8_filter_12 D d Q n r0 r1 x2 x3 h → JW D (d + 1) mX8_filter 12 [some (vR 41 r0), some (vR 47 r1), some (vI x2), some (vI x3), none, none, none] [] h Q := by
  intro n
  induction n with
  | zero => intro _ _ _ _ _ w; exact w.elim
  | succ n ih => intro _ _ _ _ h w; exact w_X8_filter_12 ih w
def W_X8_filter_0 (D : JD) (d : Nat) (Q : JO → JH → Prop) (r0 : Nat) (r1 : Nat) (h : JH) : Prop :=
  r1 ≠ 0 ∧ (((jfr h 282 r1) ≠ 0 → ∃ n, L_X8_filter_12 D d Q n r0 r1 (0 : Int32) (0 : Int32) h) ∧ ((jfr h 282 r1) = 0 → Q (.inl none) h))
theorem w_X8_filter_0 {D : JD} {d : Nat} {Q : JO → JH → Prop} {r0 : Nat} {r1 : Nat} {h : JH} (w : W_X8_filter_0 D d Q r0 r1 h) : JW D (d + 1) mX8_filter 0 [some (vR 41 r0), some (vR 47 r1), none, none, none, none, none] [] h Q := by
  unfold W_X8_filter_0 at w
  refine jw_aload_n (pc' := 1) rfl rfl ?_
  obtain ⟨g_1, w⟩ := w
  refine jw_getR (pc' := 4) (F := 282) (t' := 48) rfl rfl rfl rfl rfl g_1 ?_
  refine jw_ifnonnull (tgt := 8) (pc' := 7) rfl rfl (fun c_2 => ?_) (fun c_2 => ?_)
  · replace w := w.1 c_2
    refine jw_iconst (pc' := 9) (x := (0 : Int32)) rfl rfl ?_
    refine jw_istore_n (pc' := 10) (ls' := [some (vR 41 r0), some (vR 47 r1), some (vI (0 : Int32)), none, none, none, none]) rfl (by decide) rfl ?_
    refine jw_iconst (pc' := 11) (x := (0 : Int32)) rfl rfl ?_
    refine jw_istore_n (pc' := 12) (ls' := [some (vR 41 r0), some (vR 47 r1), some (vI (0 : Int32)), some (vI (0 : Int32)), none, none, none]) rfl (by decide) rfl ?_
    obtain ⟨n, w⟩ := w
    exact l_X8_filter_12 n _ _ _ _ _ w
  · replace w := w.2 c_2
    exact jw_return rfl rfl w
def T_X8_filter (D : JD) (d : Nat) (Q : JO → JH → Prop) (r0 : Nat) (r1 : Nat) (h : JH) : Prop := W_X8_filter_0 D d Q r0 r1 h
theorem t_X8_filter {D : JD} {d : Nat} {Q : JO → JH → Prop} {r0 : Nat} {r1 : Nat} {h : JH} (w : T_X8_filter D d Q r0 r1 h) : cX8_filter D (d + 1) r0 r1 h Q := by
  unfold T_X8_filter at w
  unfold cX8_filter
  exact w_X8_filter_0 w
