/-! what each method needs (printed by tools/gen_wp.py) -/
set_option maxRecDepth 4000
def W_X8_groups_364 (D : JD) (d : Nat) (Q : JO → JH → Prop) (K331 : Nat → Nat → Int32 → Int32 → JH → Prop) (r0 : Nat) (r1 : Nat) (x2 : Int32) (x3 : Int32) (h : JH) : Prop :=
  K331 r0 r1 x2 (x3 + (1 : Int32)) h
theorem w_X8_groups_364 {D : JD} {d : Nat} {Q : JO → JH → Prop} {K331 : Nat → Nat → Int32 → Int32 → JH → Prop} {r0 : Nat} {r1 : Nat} {x2 : Int32} {x3 : Int32} {h : JH} (hK331 : ∀ (r0 : Nat) (r1 : Nat) (x2 : Int32) (x3 : Int32) (h : JH), K331 r0 r1 x2 x3 h → JW D (d + 1) mX8_groups 331 [some (vR 41 r0), some (vR 47 r1), some (vI x2), some (vI x3), none, none, none] [] h Q) (w : W_X8_groups_364 D d Q K331 r0 r1 x2 x3 h) : JW D (d + 1) mX8_groups 364 [some (vR 41 r0), some (vR 47 r1), some (vI x2), some (vI x3), none, none, none] [] h Q := by
  unfold W_X8_groups_364 at w
  refine jw_iinc (pc' := 367) (y := x3 + (1 : Int32)) (ls' := [some (vR 41 r0), some (vR 47 r1), some (vI x2), some (vI (x3 + (1 : Int32))), none, none, none]) rfl (by decide) rfl rfl rfl ?_
  refine jw_goto (pc' := 331) rfl rfl ?_
  exact hK331 _ _ _ _ _ w
def W_X8_groups_331 (D : JD) (d : Nat) (Q : JO → JH → Prop) (K331 : Nat → Nat → Int32 → Int32 → JH → Prop) (r0 : Nat) (r1 : Nat) (x2 : Int32) (x3 : Int32) (h : JH) : Prop :=
  (x2 ≤ x3 → Q (.inl none) h) ∧ (¬ x2 ≤ x3 → r0 ≠ 0 ∧ ((jfr h 219 r0) ≠ 0 ∧ jin x3 (jln h (jfr h 219 r0)) ∧ ((¬ (jai h (jfr h 219 r0) (ixn x3)) = 0 → (jfr h 218 r0) ≠ 0 ∧ jin x3 (jln h (jfr h 218 r0)) ∧ (cX8_enter D d r0 x3 (jai h (jfr h 218 r0) (ixn x3)) h (pV D h (fun h_8 => cX8_out D d r0 r1 h_8 (pV D h_8 (fun h_11 => W_X8_groups_364 D d Q K331 r0 r1 x2 x3 h_11) (jth Q))) (jth Q)))) ∧ ((jai h (jfr h 219 r0) (ixn x3)) = 0 → W_X8_groups_364 D d Q K331 r0 r1 x2 x3 h))))
theorem w_X8_groups_331 {D : JD} {d : Nat} {Q : JO → JH → Prop} {K331 : Nat → Nat → Int32 → Int32 → JH → Prop} {r0 : Nat} {r1 : Nat} {x2 : Int32} {x3 : Int32} {h : JH} (hK331 : ∀ (r0 : Nat) (r1 : Nat) (x2 : Int32) (x3 : Int32) (h : JH), K331 r0 r1 x2 x3 h → JW D (d + 1) mX8_groups 331 [some (vR 41 r0), some (vR 47 r1), some (vI x2), some (vI x3), none, none, none] [] h Q) (w : W_X8_groups_331 D d Q K331 r0 r1 x2 x3 h) : JW D (d + 1) mX8_groups 331 [some (vR 41 r0), some (vR 47 r1), some (vI x2), some (vI x3), none, none, none] [] h Q := by
  unfold W_X8_groups_331 at w
  refine jw_iload_n (pc' := 332) rfl rfl ?_
  refine jw_iload_n (pc' := 333) rfl rfl ?_
  refine jw_icmp_ge (tgt := 370) (pc' := 336) rfl rfl (fun c_1 => ?_) (fun c_1 => ?_)
  · replace w := w.1 c_1
    exact jw_return rfl rfl w
  · replace w := w.2 c_1
    refine jw_aload_n (pc' := 337) rfl rfl ?_
    obtain ⟨g_2, w⟩ := w
    refine jw_getR (pc' := 340) (F := 219) (t' := 177) rfl rfl rfl rfl rfl g_2 ?_
    refine jw_iload_n (pc' := 341) rfl rfl ?_
    obtain ⟨g_3, w⟩ := w
    obtain ⟨g_4, w⟩ := w
    refine jw_zald (pc' := 342) rfl rfl rfl rfl g_3 g_4.ix g_4.2 ?_
    refine jw_if_ne (tgt := 348) (pc' := 345) rfl rfl (fun c_5 => ?_) (fun c_5 => ?_)
    · replace w := w.1 c_5
      refine jw_aload_n (pc' := 349) rfl rfl ?_
      refine jw_iload_n (pc' := 350) rfl rfl ?_
      refine jw_aload_n (pc' := 351) rfl rfl ?_
      refine jw_getR (pc' := 354) (F := 218) (t' := 176) rfl rfl rfl rfl rfl g_2 ?_
      refine jw_iload_n (pc' := 355) rfl rfl ?_
      obtain ⟨g_6, w⟩ := w
      obtain ⟨g_7, w⟩ := w
      refine jw_iald (pc' := 356) rfl rfl rfl rfl g_6 g_7.ix g_7.2 ?_
      refine jw_cV (st := []) (sa := [vR 41 r0, vI x3, vI (jai h (jfr h 218 r0) (ixn x3))]) okX8_enter rfl rfl rfl rfl rfl rfl (jstp_virtual (sa := [vI x3, vI (jai h (jfr h 218 r0) (ixn x3))]) (st := []) (k := 0) rfl rfl sX8_enter okX8_enter g_2 (one41.k g_2) rfl rfl) w (fun h_8 _ _ w => ?_)
      refine jw_aload_n (pc' := 360) rfl rfl ?_
      refine jw_aload_n (pc' := 361) rfl rfl ?_
      refine jw_cV (st := []) (sa := [vR 41 r0, vR 47 r1]) okX8_out rfl rfl rfl rfl rfl rfl (jstp_virtual (sa := [vR 47 r1]) (st := []) (k := 0) rfl rfl sX8_out okX8_out g_2 (one41.k g_2) rfl rfl) w (fun h_11 _ _ w => ?_)
      exact w_X8_groups_364 hK331 w
    · replace w := w.2 c_5
      refine jw_goto (pc' := 364) rfl rfl ?_
      exact w_X8_groups_364 hK331 w
def L_X8_groups_331 (D : JD) (d : Nat) (Q : JO → JH → Prop) : Nat → Nat → Nat → Int32 → Int32 → JH → Prop
  | 0 => fun _ _ _ _ _ => False
  | n + 1 => fun r0 r1 x2 x3 h => W_X8_groups_331 D d Q (L_X8_groups_331 D d Q n) r0 r1 x2 x3 h
theorem l_X8_groups_331 {D : JD} {d : Nat} {Q : JO → JH → Prop} : ∀ (n : Nat) (r0 : Nat) (r1 : Nat) (x2 : Int32) (x3 : Int32) (h : JH), L_X8_groups_331 D d Q n r0 r1 x2 x3 h → JW D (d + 1) mX8_groups 331 [some (vR 41 r0), some (vR 47 r1), some (vI x2), some (vI x3), none, none, none] [] h Q := by
  intro n
  induction n with
  | zero => intro _ _ _ _ _ w; exact w.elim
  | succ n ih => intro _ _ _ _ h w; exact w_X8_groups_331 ih w
def W_X8_groups_316 (D : JD) (d : Nat) (Q : JO → JH → Prop) (K263 : Nat → Nat → Int32 → Int32 → JH → Prop) (r0 : Nat) (r1 : Nat) (x2 : Int32) (x3 : Int32) (x4 : Int32) (q0 : Nat) (s1 : Int32) (s2 : Int32) (h : JH) : Prop :=
  q0 ≠ 0 ∧ jin s1 (jln h q0) ∧ jbo s2 ∧ ∀ h_4 : JH, h_4 = wai h q0 (ixn s1) s2 → (r0 ≠ 0 ∧ ∀ h_7 : JH, h_7 = wfi h_4 177 r0 x4 → (K263 r0 r1 x2 (x3 + (1 : Int32)) h_7))
theorem w_X8_groups_316 {D : JD} {d : Nat} {Q : JO → JH → Prop} {K263 : Nat → Nat → Int32 → Int32 → JH → Prop} {r0 : Nat} {r1 : Nat} {x2 : Int32} {x3 : Int32} {x4 : Int32} {q0 : Nat} {s1 : Int32} {s2 : Int32} {h : JH} (hK263 : ∀ (r0 : Nat) (r1 : Nat) (x2 : Int32) (x3 : Int32) (h : JH), K263 r0 r1 x2 x3 h → JW D (d + 1) mX8_groups 263 [some (vR 41 r0), some (vR 47 r1), some (vI x2), some (vI x3), none, none, none] [] h Q) (w : W_X8_groups_316 D d Q K263 r0 r1 x2 x3 x4 q0 s1 s2 h) : JW D (d + 1) mX8_groups 316 [some (vR 41 r0), some (vR 47 r1), some (vI x2), some (vI x3), some (vI x4), none, none] [vI s2, vI s1, vR 177 q0] h Q := by
  unfold W_X8_groups_316 at w
  obtain ⟨g_1, w⟩ := w
  obtain ⟨g_2, w⟩ := w
  obtain ⟨g_3, w⟩ := w
  refine jw_zast' (pc' := 317) rfl rfl rfl rfl rfl (g_3.nr) g_1 g_2 (fun h_4 e_5 => ?_)
  replace w := w h_4 e_5
  refine jw_aload_n (pc' := 318) rfl rfl ?_
  refine jw_iload (pc' := 320) rfl rfl ?_
  obtain ⟨g_6, w⟩ := w
  refine jw_putI' (pc' := 323) (F := 177) rfl rfl rfl (Or.inr rfl) (Or.inl rfl) rfl (rfl) (rfl) rfl g_6 (fun h_7 e_8 => ?_)
  replace w := w h_7 e_8
  refine jw_iinc (pc' := 326) (y := x3 + (1 : Int32)) (ls' := [some (vR 41 r0), some (vR 47 r1), some (vI x2), some (vI (x3 + (1 : Int32))), some (vI x4), none, none]) rfl (by decide) rfl rfl rfl ?_
  refine jw_goto (pc' := 263) rfl rfl ?_
  refine jw_gen (ls' := [some (vR 41 r0), some (vR 47 r1), some (vI x2), some (vI (x3 + (1 : Int32))), none, none, none]) (st' := []) (And.intro (Or.inl rfl) (And.intro (Or.inl rfl) (And.intro (Or.inl rfl) (And.intro (Or.inl rfl) (trivial))))) (trivial) ?_
  exact hK263 _ _ _ _ _ w
def W_X8_groups_311 (D : JD) (d : Nat) (Q : JO → JH → Prop) (K263 : Nat → Nat → Int32 → Int32 → JH → Prop) (r0 : Nat) (r1 : Nat) (x2 : Int32) (x3 : Int32) (x4 : Int32) (q0 : Nat) (s1 : Int32) (h : JH) : Prop :=
  W_X8_groups_316 D d Q K263 r0 r1 x2 x3 x4 q0 s1 (1 : Int32) h
theorem w_X8_groups_311 {D : JD} {d : Nat} {Q : JO → JH → Prop} {K263 : Nat → Nat → Int32 → Int32 → JH → Prop} {r0 : Nat} {r1 : Nat} {x2 : Int32} {x3 : Int32} {x4 : Int32} {q0 : Nat} {s1 : Int32} {h : JH} (hK263 : ∀ (r0 : Nat) (r1 : Nat) (x2 : Int32) (x3 : Int32) (h : JH), K263 r0 r1 x2 x3 h → JW D (d + 1) mX8_groups 263 [some (vR 41 r0), some (vR 47 r1), some (vI x2), some (vI x3), none, none, none] [] h Q) (w : W_X8_groups_311 D d Q K263 r0 r1 x2 x3 x4 q0 s1 h) : JW D (d + 1) mX8_groups 311 [some (vR 41 r0), some (vR 47 r1), some (vI x2), some (vI x3), some (vI x4), none, none] [vI s1, vR 177 q0] h Q := by
  unfold W_X8_groups_311 at w
  refine jw_iconst (pc' := 312) (x := (1 : Int32)) rfl rfl ?_
  refine jw_goto (pc' := 316) rfl rfl ?_
  exact w_X8_groups_316 hK263 w
def W_X8_groups_263 (D : JD) (d : Nat) (Q : JO → JH → Prop) (K263 : Nat → Nat → Int32 → Int32 → JH → Prop) (r0 : Nat) (r1 : Nat) (x2 : Int32) (x3 : Int32) (h : JH) : Prop :=
  (x2 ≤ x3 → ∃ n, L_X8_groups_331 D d Q n r0 r1 x2 (0 : Int32) h) ∧ (¬ x2 ≤ x3 → r0 ≠ 0 ∧ ((jfr h 218 r0) ≠ 0 ∧ jin x3 (jln h (jfr h 218 r0)) ∧ (cX8_enter D d r0 x3 (jai h (jfr h 218 r0) (ixn x3)) h (pV D h (fun h_5 => r1 ≠ 0 ∧ (((jfr h_5 293 r1) = 0 → W_X8_groups_311 D d Q K263 r0 r1 x2 x3 (jfi h_5 177 r0) (jfr h_5 219 r0) x3 h_5) ∧ ((jfr h_5 293 r1) ≠ 0 → cX8_eval D d r0 (jfr h_5 293 r1) h_5 (pR D h_5 46 (fun v_12 h_10 => cX8_isTrue D d v_12 h_10 (pI D h_10 (fun v_15 h_13 => (v_15 = 0 → W_X8_groups_316 D d Q K263 r0 r1 x2 x3 (jfi h_5 177 r0) (jfr h_5 219 r0) x3 (0 : Int32) h_13) ∧ (¬ v_15 = 0 → W_X8_groups_311 D d Q K263 r0 r1 x2 x3 (jfi h_5 177 r0) (jfr h_5 219 r0) x3 h_13)) (jth Q))) (jth Q))))) (jth Q)))))
theorem w_X8_groups_263 {D : JD} {d : Nat} {Q : JO → JH → Prop} {K263 : Nat → Nat → Int32 → Int32 → JH → Prop} {r0 : Nat} {r1 : Nat} {x2 : Int32} {x3 : Int32} {h : JH} (hK263 : ∀ (r0 : Nat) (r1 : Nat) (x2 : Int32) (x3 : Int32) (h : JH), K263 r0 r1 x2 x3 h → JW D (d + 1) mX8_groups 263 [some (vR 41 r0), some (vR 47 r1), some (vI x2), some (vI x3), none, none, none] [] h Q) (w : W_X8_groups_263 D d Q K263 r0 r1 x2 x3 h) : JW D (d + 1) mX8_groups 263 [some (vR 41 r0), some (vR 47 r1), some (vI x2), some (vI x3), none, none, none] [] h Q := by
  unfold W_X8_groups_263 at w
  refine jw_iload_n (pc' := 264) rfl rfl ?_
  refine jw_iload_n (pc' := 265) rfl rfl ?_
  refine jw_icmp_ge (tgt := 329) (pc' := 268) rfl rfl (fun c_1 => ?_) (fun c_1 => ?_)
  · replace w := w.1 c_1
    refine jw_iconst (pc' := 330) (x := (0 : Int32)) rfl rfl ?_
    refine jw_istore_n (pc' := 331) (ls' := [some (vR 41 r0), some (vR 47 r1), some (vI x2), some (vI (0 : Int32)), none, none, none]) rfl (by decide) rfl ?_
    obtain ⟨n, w⟩ := w
    exact l_X8_groups_331 n _ _ _ _ _ w
  · replace w := w.2 c_1
    refine jw_aload_n (pc' := 269) rfl rfl ?_
    refine jw_iload_n (pc' := 270) rfl rfl ?_
    refine jw_aload_n (pc' := 271) rfl rfl ?_
    obtain ⟨g_2, w⟩ := w
    refine jw_getR (pc' := 274) (F := 218) (t' := 176) rfl rfl rfl rfl rfl g_2 ?_
    refine jw_iload_n (pc' := 275) rfl rfl ?_
    obtain ⟨g_3, w⟩ := w
    obtain ⟨g_4, w⟩ := w
    refine jw_iald (pc' := 276) rfl rfl rfl rfl g_3 g_4.ix g_4.2 ?_
    refine jw_cV (st := []) (sa := [vR 41 r0, vI x3, vI (jai h (jfr h 218 r0) (ixn x3))]) okX8_enter rfl rfl rfl rfl rfl rfl (jstp_virtual (sa := [vI x3, vI (jai h (jfr h 218 r0) (ixn x3))]) (st := []) (k := 0) rfl rfl sX8_enter okX8_enter g_2 (one41.k g_2) rfl rfl) w (fun h_5 _ _ w => ?_)
    refine jw_aload_n (pc' := 280) rfl rfl ?_
    refine jw_getI (pc' := 283) (F := 177) rfl rfl rfl rfl g_2 ?_
    refine jw_istore (pc' := 285) (ls' := [some (vR 41 r0), some (vR 47 r1), some (vI x2), some (vI x3), some (vI (jfi h_5 177 r0)), none, none]) rfl (by decide) rfl ?_
    refine jw_aload_n (pc' := 286) rfl rfl ?_
    refine jw_getR (pc' := 289) (F := 219) (t' := 177) rfl rfl rfl rfl rfl g_2 ?_
    refine jw_iload_n (pc' := 290) rfl rfl ?_
    refine jw_aload_n (pc' := 291) rfl rfl ?_
    obtain ⟨g_8, w⟩ := w
    refine jw_getR (pc' := 294) (F := 293) (t' := 48) rfl rfl rfl rfl rfl g_8 ?_
    refine jw_ifnull (tgt := 311) (pc' := 297) rfl rfl (fun c_9 => ?_) (fun c_9 => ?_)
    · replace w := w.1 c_9
      exact w_X8_groups_311 hK263 w
    · replace w := w.2 c_9
      refine jw_aload_n (pc' := 298) rfl rfl ?_
      refine jw_aload_n (pc' := 299) rfl rfl ?_
      refine jw_getR (pc' := 302) (F := 293) (t' := 48) rfl rfl rfl rfl rfl g_8 ?_
      refine jw_cR (st := [vI x3, vR 177 (jfr h_5 219 r0)]) (sa := [vR 41 r0, vR 48 (jfr h_5 293 r1)]) okX8_eval rfl rfl rfl rfl rfl rfl (jstp_virtual (sa := [vR 48 (jfr h_5 293 r1)]) (st := [vI x3, vR 177 (jfr h_5 219 r0)]) (k := 0) rfl rfl sX8_eval okX8_eval g_2 (one41.k g_2) rfl rfl) w (fun v_12 h_10 _ _ _ w => ?_)
      refine jw_cI (st := [vI x3, vR 177 (jfr h_5 219 r0)]) (sa := [vR 46 v_12]) okX8_isTrue rfl rfl rfl rfl rfl rfl (jstp_static (sa := [vR 46 v_12]) (st := [vI x3, vR 177 (jfr h_5 219 r0)]) rfl rfl sX8_isTrue okX8_isTrue rfl rfl) w (fun v_15 h_13 _ _ w => ?_)
      refine jw_if_eq (tgt := 315) (pc' := 311) rfl rfl (fun c_16 => ?_) (fun c_16 => ?_)
      · replace w := w.1 c_16
        refine jw_iconst (pc' := 316) (x := (0 : Int32)) rfl rfl ?_
        exact w_X8_groups_316 hK263 w
      · replace w := w.2 c_16
        exact w_X8_groups_311 hK263 w
def L_X8_groups_263 (D : JD) (d : Nat) (Q : JO → JH → Prop) : Nat → Nat → Nat → Int32 → Int32 → JH → Prop
  | 0 => fun _ _ _ _ _ => False
  | n + 1 => fun r0 r1 x2 x3 h => W_X8_groups_263 D d Q (L_X8_groups_263 D d Q n) r0 r1 x2 x3 h
theorem l_X8_groups_263 {D : JD} {d : Nat} {Q : JO → JH → Prop} : ∀ (n : Nat) (r0 : Nat) (r1 : Nat) (x2 : Int32) (x3 : Int32) (h : JH), L_X8_groups_263 D d Q n r0 r1 x2 x3 h → JW D (d + 1) mX8_groups 263 [some (vR 41 r0), some (vR 47 r1), some (vI x2), some (vI x3), none, none, none] [] h Q := by
  intro n
  induction n with
  | zero => intro _ _ _ _ _ w; exact w.elim
  | succ n ih => intro _ _ _ _ h w; exact w_X8_groups_263 ih w
def W_X8_groups_261 (D : JD) (d : Nat) (Q : JO → JH → Prop) (r0 : Nat) (r1 : Nat) (x2 : Int32) (h : JH) : Prop :=
  ∃ n, L_X8_groups_263 D d Q n r0 r1 x2 (0 : Int32) h
theorem w_X8_groups_261 {D : JD} {d : Nat} {Q : JO → JH → Prop} {r0 : Nat} {r1 : Nat} {x2 : Int32} {h : JH} (w : W_X8_groups_261 D d Q r0 r1 x2 h) : JW D (d + 1) mX8_groups 261 [some (vR 41 r0), some (vR 47 r1), some (vI x2), none, none, none, none] [] h Q := by
  unfold W_X8_groups_261 at w
  refine jw_iconst (pc' := 262) (x := (0 : Int32)) rfl rfl ?_
  refine jw_istore_n (pc' := 263) (ls' := [some (vR 41 r0), some (vR 47 r1), some (vI x2), some (vI (0 : Int32)), none, none, none]) rfl (by decide) rfl ?_
  obtain ⟨n, w⟩ := w
  exact l_X8_groups_263 n _ _ _ _ _ w
def W_X8_groups_260 (D : JD) (d : Nat) (Q : JO → JH → Prop) (r0 : Nat) (r1 : Nat) (x2 : Int32) (q0 : Nat) (s1 : Int32) (s2 : Int32) (h : JH) : Prop :=
  q0 ≠ 0 ∧ jin s1 (jln h q0) ∧ ∀ h_3 : JH, h_3 = wai h q0 (ixn s1) s2 → (W_X8_groups_261 D d Q r0 r1 x2 h_3)
theorem w_X8_groups_260 {D : JD} {d : Nat} {Q : JO → JH → Prop} {r0 : Nat} {r1 : Nat} {x2 : Int32} {q0 : Nat} {s1 : Int32} {s2 : Int32} {h : JH} (w : W_X8_groups_260 D d Q r0 r1 x2 q0 s1 s2 h) : JW D (d + 1) mX8_groups 260 [some (vR 41 r0), some (vR 47 r1), some (vI x2), none, none, none, none] [vI s2, vI s1, vR 176 q0] h Q := by
  unfold W_X8_groups_260 at w
  obtain ⟨g_1, w⟩ := w
  obtain ⟨g_2, w⟩ := w
  refine jw_iast' (pc' := 261) rfl rfl rfl rfl rfl g_1 g_2 (fun h_3 e_4 => ?_)
  replace w := w h_3 e_4
  exact w_X8_groups_261 w
def W_X8_groups_214 (D : JD) (d : Nat) (Q : JO → JH → Prop) (K4 : Nat → Nat → Int32 → Int32 → JH → Prop) (r0 : Nat) (r1 : Nat) (x2 : Int32) (x3 : Int32) (x4 : Int32) (x5 : Int32) (h : JH) : Prop :=
  r0 ≠ 0 ∧ ∀ h_2 : JH, h_2 = wfi h 177 r0 x4 → ((jfr h_2 210 r0) ≠ 0 ∧ jin x3 (jln h_2 (jfr h_2 210 r0)) ∧ ∀ h_6 : JH, h_6 = wai h_2 (jfr h_2 210 r0) (ixn x3) x5 → (K4 r0 r1 x2 (x3 + (1 : Int32)) h_6))
theorem w_X8_groups_214 {D : JD} {d : Nat} {Q : JO → JH → Prop} {K4 : Nat → Nat → Int32 → Int32 → JH → Prop} {r0 : Nat} {r1 : Nat} {x2 : Int32} {x3 : Int32} {x4 : Int32} {x5 : Int32} {h : JH} (hK4 : ∀ (r0 : Nat) (r1 : Nat) (x2 : Int32) (x3 : Int32) (h : JH), K4 r0 r1 x2 x3 h → JW D (d + 1) mX8_groups 4 [some (vR 41 r0), some (vR 47 r1), some (vI x2), some (vI x3), none, none, none] [] h Q) (w : W_X8_groups_214 D d Q K4 r0 r1 x2 x3 x4 x5 h) : JW D (d + 1) mX8_groups 214 [some (vR 41 r0), some (vR 47 r1), some (vI x2), some (vI x3), some (vI x4), some (vI x5), none] [] h Q := by
  unfold W_X8_groups_214 at w
  refine jw_aload_n (pc' := 215) rfl rfl ?_
  refine jw_iload (pc' := 217) rfl rfl ?_
  obtain ⟨g_1, w⟩ := w
  refine jw_putI' (pc' := 220) (F := 177) rfl rfl rfl (Or.inr rfl) (Or.inl rfl) rfl (rfl) (rfl) rfl g_1 (fun h_2 e_3 => ?_)
  replace w := w h_2 e_3
  refine jw_aload_n (pc' := 221) rfl rfl ?_
  refine jw_getR (pc' := 224) (F := 210) (t' := 171) rfl rfl rfl rfl rfl g_1 ?_
  refine jw_iload_n (pc' := 225) rfl rfl ?_
  refine jw_iload (pc' := 227) rfl rfl ?_
  obtain ⟨g_4, w⟩ := w
  obtain ⟨g_5, w⟩ := w
  refine jw_iast' (pc' := 228) rfl rfl rfl rfl rfl g_4 g_5 (fun h_6 e_7 => ?_)
  replace w := w h_6 e_7
  refine jw_iinc (pc' := 231) (y := x3 + (1 : Int32)) (ls' := [some (vR 41 r0), some (vR 47 r1), some (vI x2), some (vI (x3 + (1 : Int32))), some (vI x4), some (vI x5), none]) rfl (by decide) rfl rfl rfl ?_
  refine jw_goto (pc' := 4) rfl rfl ?_
  refine jw_gen (ls' := [some (vR 41 r0), some (vR 47 r1), some (vI x2), some (vI (x3 + (1 : Int32))), none, none, none]) (st' := []) (And.intro (Or.inl rfl) (And.intro (Or.inl rfl) (And.intro (Or.inl rfl) (And.intro (Or.inl rfl) (trivial))))) (trivial) ?_
  exact hK4 _ _ _ _ _ w
def W_X8_groups_174 (D : JD) (d : Nat) (Q : JO → JH → Prop) (K4 : Nat → Nat → Int32 → Int32 → JH → Prop) (K129 : Nat → Nat → Int32 → Int32 → Int32 → Int32 → Int32 → JH → Prop) (r0 : Nat) (r1 : Nat) (x2 : Int32) (x3 : Int32) (x4 : Int32) (x5 : Int32) (x6 : Int32) (h : JH) : Prop :=
  r0 ≠ 0 ∧ ((jfr h 217 r0) ≠ 0 ∧ jin (((8 : Int32) * x5) + x6) (jln h (jfr h 217 r0)) ∧ ((jfr h 216 r0) ≠ 0 ∧ jin x6 (jln h (jfr h 216 r0)) ∧ ((jar h (jfr h 217 r0) (ixn (((8 : Int32) * x5) + x6))) ≠ 0 ∧ (cX13_take D d (jar h (jfr h 217 r0) (ixn (((8 : Int32) * x5) + x6))) (jar h (jfr h 216 r0) (ixn x6)) h (pV D h (fun h_7 => K129 r0 r1 x2 x3 x4 x5 (x6 + (1 : Int32)) h_7) (jth Q))))))
theorem w_X8_groups_174 {D : JD} {d : Nat} {Q : JO → JH → Prop} {K4 : Nat → Nat → Int32 → Int32 → JH → Prop} {K129 : Nat → Nat → Int32 → Int32 → Int32 → Int32 → Int32 → JH → Prop} {r0 : Nat} {r1 : Nat} {x2 : Int32} {x3 : Int32} {x4 : Int32} {x5 : Int32} {x6 : Int32} {h : JH} (hK4 : ∀ (r0 : Nat) (r1 : Nat) (x2 : Int32) (x3 : Int32) (h : JH), K4 r0 r1 x2 x3 h → JW D (d + 1) mX8_groups 4 [some (vR 41 r0), some (vR 47 r1), some (vI x2), some (vI x3), none, none, none] [] h Q) (hK129 : ∀ (r0 : Nat) (r1 : Nat) (x2 : Int32) (x3 : Int32) (x4 : Int32) (x5 : Int32) (x6 : Int32) (h : JH), K129 r0 r1 x2 x3 x4 x5 x6 h → JW D (d + 1) mX8_groups 129 [some (vR 41 r0), some (vR 47 r1), some (vI x2), some (vI x3), some (vI x4), some (vI x5), some (vI x6)] [] h Q) (w : W_X8_groups_174 D d Q K4 K129 r0 r1 x2 x3 x4 x5 x6 h) : JW D (d + 1) mX8_groups 174 [some (vR 41 r0), some (vR 47 r1), some (vI x2), some (vI x3), some (vI x4), some (vI x5), some (vI x6)] [] h Q := by
  unfold W_X8_groups_174 at w
  refine jw_aload_n (pc' := 175) rfl rfl ?_
  obtain ⟨g_1, w⟩ := w
  refine jw_getR (pc' := 178) (F := 217) (t' := 175) rfl rfl rfl rfl rfl g_1 ?_
  refine jw_bipush (pc' := 180) (x := (8 : Int32)) rfl rfl ?_
  refine jw_iload (pc' := 182) rfl rfl ?_
  refine jw_imul (pc' := 183) rfl ?_
  refine jw_iload (pc' := 185) rfl rfl ?_
  refine jw_iadd (pc' := 186) rfl ?_
  obtain ⟨g_2, w⟩ := w
  obtain ⟨g_3, w⟩ := w
  refine jw_aald (pc' := 187) (t' := 46) rfl rfl rfl rfl g_2 g_3.ix g_3.2 ?_
  refine jw_aload_n (pc' := 188) rfl rfl ?_
  refine jw_getR (pc' := 191) (F := 216) (t' := 174) rfl rfl rfl rfl rfl g_1 ?_
  refine jw_iload (pc' := 193) rfl rfl ?_
  obtain ⟨g_4, w⟩ := w
  obtain ⟨g_5, w⟩ := w
  refine jw_aald (pc' := 194) (t' := 46) rfl rfl rfl rfl g_4 g_5.ix g_5.2 ?_
  obtain ⟨g_6, w⟩ := w
  refine jw_cV (st := []) (sa := [vR 46 (jar h (jfr h 217 r0) (ixn (((8 : Int32) * x5) + x6))), vR 46 (jar h (jfr h 216 r0) (ixn x6))]) okX13_take rfl rfl rfl rfl rfl rfl (jstp_virtual (sa := [vR 46 (jar h (jfr h 216 r0) (ixn x6))]) (st := []) (k := 0) rfl rfl sX13_take okX13_take g_6 (one46.k g_6) rfl rfl) w (fun h_7 _ _ w => ?_)
  refine jw_iinc (pc' := 200) (y := x6 + (1 : Int32)) (ls' := [some (vR 41 r0), some (vR 47 r1), some (vI x2), some (vI x3), some (vI x4), some (vI x5), some (vI (x6 + (1 : Int32)))]) rfl (by decide) rfl rfl rfl ?_
  refine jw_goto (pc' := 129) rfl rfl ?_
  exact hK129 _ _ _ _ _ _ _ _ w
def W_X8_groups_129 (D : JD) (d : Nat) (Q : JO → JH → Prop) (K4 : Nat → Nat → Int32 → Int32 → JH → Prop) (K129 : Nat → Nat → Int32 → Int32 → Int32 → Int32 → Int32 → JH → Prop) (r0 : Nat) (r1 : Nat) (x2 : Int32) (x3 : Int32) (x4 : Int32) (x5 : Int32) (x6 : Int32) (h : JH) : Prop :=
  r1 ≠ 0 ∧ (((jfi h 292 r1) ≤ x6 → r0 ≠ 0 ∧ ((jfr h 218 r0) ≠ 0 ∧ jin x5 (jln h (jfr h 218 r0)) ∧ ∀ h_6 : JH, h_6 = wai h (jfr h 218 r0) (ixn x5) x3 → (W_X8_groups_214 D d Q K4 r0 r1 (x2 + (1 : Int32)) x3 x4 x5 h_6))) ∧ (¬ (jfi h 292 r1) ≤ x6 → r0 ≠ 0 ∧ ((jfr h 217 r0) ≠ 0 ∧ jin (((8 : Int32) * x5) + x6) (jln h (jfr h 217 r0)) ∧ (((jar h (jfr h 217 r0) (ixn (((8 : Int32) * x5) + x6))) ≠ 0 → W_X8_groups_174 D d Q K4 K129 r0 r1 x2 x3 x4 x5 x6 h) ∧ ((jar h (jfr h 217 r0) (ixn (((8 : Int32) * x5) + x6))) = 0 → ∀ (r_12 : Nat) (h_13 : JH), r_12 = jsz h + 1 → h_13 = nwo h 106 4 → (cX13_init D d r_12 h_13 (pV D h_13 (fun h_16 => jin (((8 : Int32) * x5) + x6) (jln h_16 (jfr h 217 r0)) ∧ ∀ h_20 : JH, h_20 = war h_16 (jfr h 217 r0) (ixn (((8 : Int32) * x5) + x6)) r_12 → (W_X8_groups_174 D d Q K4 K129 r0 r1 x2 x3 x4 x5 x6 h_20)) (jth Q))))))))
theorem w_X8_groups_129 {D : JD} {d : Nat} {Q : JO → JH → Prop} {K4 : Nat → Nat → Int32 → Int32 → JH → Prop} {K129 : Nat → Nat → Int32 → Int32 → Int32 → Int32 → Int32 → JH → Prop} {r0 : Nat} {r1 : Nat} {x2 : Int32} {x3 : Int32} {x4 : Int32} {x5 : Int32} {x6 : Int32} {h : JH} (hK4 : ∀ (r0 : Nat) (r1 : Nat) (x2 : Int32) (x3 : Int32) (h : JH), K4 r0 r1 x2 x3 h → JW D (d + 1) mX8_groups 4 [some (vR 41 r0), some (vR 47 r1), some (vI x2), some (vI x3), none, none, none] [] h Q) (hK129 : ∀ (r0 : Nat) (r1 : Nat) (x2 : Int32) (x3 : Int32) (x4 : Int32) (x5 : Int32) (x6 : Int32) (h : JH), K129 r0 r1 x2 x3 x4 x5 x6 h → JW D (d + 1) mX8_groups 129 [some (vR 41 r0), some (vR 47 r1), some (vI x2), some (vI x3), some (vI x4), some (vI x5), some (vI x6)] [] h Q) (w : W_X8_groups_129 D d Q K4 K129 r0 r1 x2 x3 x4 x5 x6 h) : JW D (d + 1) mX8_groups 129 [some (vR 41 r0), some (vR 47 r1), some (vI x2), some (vI x3), some (vI x4), some (vI x5), some (vI x6)] [] h Q := by
  unfold W_X8_groups_129 at w
  refine jw_iload (pc' := 131) rfl rfl ?_
  refine jw_aload_n (pc' := 132) rfl rfl ?_
  obtain ⟨g_1, w⟩ := w
  refine jw_getI (pc' := 135) (F := 292) rfl rfl rfl rfl g_1 ?_
  refine jw_icmp_ge (tgt := 203) (pc' := 138) rfl rfl (fun c_2 => ?_) (fun c_2 => ?_)
  · replace w := w.1 c_2
    refine jw_aload_n (pc' := 204) rfl rfl ?_
    obtain ⟨g_3, w⟩ := w
    refine jw_getR (pc' := 207) (F := 218) (t' := 176) rfl rfl rfl rfl rfl g_3 ?_
    refine jw_iload (pc' := 209) rfl rfl ?_
    refine jw_iload_n (pc' := 210) rfl rfl ?_
    obtain ⟨g_4, w⟩ := w
    obtain ⟨g_5, w⟩ := w
    refine jw_iast' (pc' := 211) rfl rfl rfl rfl rfl g_4 g_5 (fun h_6 e_7 => ?_)
    replace w := w h_6 e_7
    refine jw_iinc (pc' := 214) (y := x2 + (1 : Int32)) (ls' := [some (vR 41 r0), some (vR 47 r1), some (vI (x2 + (1 : Int32))), some (vI x3), some (vI x4), some (vI x5), some (vI x6)]) rfl (by decide) rfl rfl rfl ?_
    refine jw_gen (ls' := [some (vR 41 r0), some (vR 47 r1), some (vI (x2 + (1 : Int32))), some (vI x3), some (vI x4), some (vI x5), none]) (st' := []) (And.intro (Or.inl rfl) (And.intro (Or.inl rfl) (And.intro (Or.inl rfl) (And.intro (Or.inl rfl) (And.intro (Or.inl rfl) (And.intro (Or.inl rfl) (trivial))))))) (trivial) ?_
    exact w_X8_groups_214 hK4 w
  · replace w := w.2 c_2
    refine jw_aload_n (pc' := 139) rfl rfl ?_
    obtain ⟨g_8, w⟩ := w
    refine jw_getR (pc' := 142) (F := 217) (t' := 175) rfl rfl rfl rfl rfl g_8 ?_
    refine jw_bipush (pc' := 144) (x := (8 : Int32)) rfl rfl ?_
    refine jw_iload (pc' := 146) rfl rfl ?_
    refine jw_imul (pc' := 147) rfl ?_
    refine jw_iload (pc' := 149) rfl rfl ?_
    refine jw_iadd (pc' := 150) rfl ?_
    obtain ⟨g_9, w⟩ := w
    obtain ⟨g_10, w⟩ := w
    refine jw_aald (pc' := 151) (t' := 46) rfl rfl rfl rfl g_9 g_10.ix g_10.2 ?_
    refine jw_ifnonnull (tgt := 174) (pc' := 154) rfl rfl (fun c_11 => ?_) (fun c_11 => ?_)
    · replace w := w.1 c_11
      exact w_X8_groups_174 hK4 hK129 w
    · replace w := w.2 c_11
      refine jw_aload_n (pc' := 155) rfl rfl ?_
      refine jw_getR (pc' := 158) (F := 217) (t' := 175) rfl rfl rfl rfl rfl g_8 ?_
      refine jw_bipush (pc' := 160) (x := (8 : Int32)) rfl rfl ?_
      refine jw_iload (pc' := 162) rfl rfl ?_
      refine jw_imul (pc' := 163) rfl ?_
      refine jw_iload (pc' := 165) rfl rfl ?_
      refine jw_iadd (pc' := 166) rfl ?_
      refine jw_new' (pc' := 169) (k := 106) (n := 4) rfl rfl rfl rfl rfl rfl rfl (fun r_12 h_13 e_14 e_15 => ?_)
      replace w := w r_12 h_13 e_14 e_15
      refine jw_dup (pc' := 170) rfl rfl ?_
      refine jw_cV (st := [vR 106 r_12, vI (((8 : Int32) * x5) + x6), vR 175 (jfr h 217 r0)]) (sa := [vR 106 r_12]) okX13_init rfl rfl rfl rfl rfl rfl (jstp_init (sa := []) (st := [vR 106 r_12, vI (((8 : Int32) * x5) + x6), vR 175 (jfr h 217 r0)]) rfl rfl sX13_init okX13_init (lw_g (jtb_mem (c := 15) (i := 221) rfl) rfl) (jnz e_14) rfl rfl) w (fun h_16 _ _ w => ?_)
      obtain ⟨g_19, w⟩ := w
      refine jw_aast' (pc' := 174) rfl rfl rfl rfl rfl rfl g_9 g_19 (fun h_20 e_21 => ?_)
      replace w := w h_20 e_21
      exact w_X8_groups_174 hK4 hK129 w
def L_X8_groups_129 (D : JD) (d : Nat) (Q : JO → JH → Prop) (K4 : Nat → Nat → Int32 → Int32 → JH → Prop) : Nat → Nat → Nat → Int32 → Int32 → Int32 → Int32 → Int32 → JH → Prop
  | 0 => fun _ _ _ _ _ _ _ _ => False
  | n + 1 => fun r0 r1 x2 x3 x4 x5 x6 h => W_X8_groups_129 D d Q K4 (L_X8_groups_129 D d Q K4 n) r0 r1 x2 x3 x4 x5 x6 h
theorem l_X8_groups_129 {D : JD} {d : Nat} {Q : JO → JH → Prop} {K4 : Nat → Nat → Int32 → Int32 → JH → Prop} (hK4 : ∀ (r0 : Nat) (r1 : Nat) (x2 : Int32) (x3 : Int32) (h : JH), K4 r0 r1 x2 x3 h → JW D (d + 1) mX8_groups 4 [some (vR 41 r0), some (vR 47 r1), some (vI x2), some (vI x3), none, none, none] [] h Q) : ∀ (n : Nat) (r0 : Nat) (r1 : Nat) (x2 : Int32) (x3 : Int32) (x4 : Int32) (x5 : Int32) (x6 : Int32) (h : JH), L_X8_groups_129 D d Q K4 n r0 r1 x2 x3 x4 x5 x6 h → JW D (d + 1) mX8_groups 129 [some (vR 41 r0), some (vR 47 r1), some (vI x2), some (vI x3), some (vI x4), some (vI x5), some (vI x6)] [] h Q := by
  intro n
  induction n with
  | zero => intro _ _ _ _ _ _ _ _ w; exact w.elim
  | succ n ih => intro _ _ _ _ _ _ _ h w; exact w_X8_groups_129 hK4 ih w
def W_X8_groups_120 (D : JD) (d : Nat) (Q : JO → JH → Prop) (K4 : Nat → Nat → Int32 → Int32 → JH → Prop) (r0 : Nat) (r1 : Nat) (x2 : Int32) (x3 : Int32) (x4 : Int32) (x5 : Int32) (q0 : Nat) (s1 : Int32) (h : JH) : Prop :=
  q0 ≠ 0 ∧ (cX8_must D d q0 s1 (jcs D 302) h (pV D h (fun h_2 => ∃ n, L_X8_groups_129 D d Q K4 n r0 r1 x2 x3 x4 x5 (0 : Int32) h_2) (jth Q)))
theorem w_X8_groups_120 {D : JD} {d : Nat} {Q : JO → JH → Prop} {K4 : Nat → Nat → Int32 → Int32 → JH → Prop} {r0 : Nat} {r1 : Nat} {x2 : Int32} {x3 : Int32} {x4 : Int32} {x5 : Int32} {q0 : Nat} {s1 : Int32} {h : JH} (hK4 : ∀ (r0 : Nat) (r1 : Nat) (x2 : Int32) (x3 : Int32) (h : JH), K4 r0 r1 x2 x3 h → JW D (d + 1) mX8_groups 4 [some (vR 41 r0), some (vR 47 r1), some (vI x2), some (vI x3), none, none, none] [] h Q) (w : W_X8_groups_120 D d Q K4 r0 r1 x2 x3 x4 x5 q0 s1 h) : JW D (d + 1) mX8_groups 120 [some (vR 41 r0), some (vR 47 r1), some (vI x2), some (vI x3), some (vI x4), some (vI x5), none] [vI s1, vR 41 q0] h Q := by
  unfold W_X8_groups_120 at w
  refine jw_ldcwS (pc' := 123) rfl rfl rfl rfl ?_
  obtain ⟨g_1, w⟩ := w
  refine jw_cV (st := []) (sa := [vR 41 q0, vI s1, vR 51 (jcs D 302)]) okX8_must rfl rfl rfl rfl rfl rfl (jstp_virtual (sa := [vI s1, vR 51 (jcs D 302)]) (st := []) (k := 0) rfl rfl sX8_must okX8_must g_1 (one41.k g_1) rfl rfl) w (fun h_2 _ _ w => ?_)
  refine jw_iconst (pc' := 127) (x := (0 : Int32)) rfl rfl ?_
  refine jw_istore (pc' := 129) (ls' := [some (vR 41 r0), some (vR 47 r1), some (vI x2), some (vI x3), some (vI x4), some (vI x5), some (vI (0 : Int32))]) rfl (by decide) rfl ?_
  obtain ⟨n, w⟩ := w
  exact l_X8_groups_129 hK4 n _ _ _ _ _ _ _ _ w
def W_X8_groups_101 (D : JD) (d : Nat) (Q : JO → JH → Prop) (K4 : Nat → Nat → Int32 → Int32 → JH → Prop) (r0 : Nat) (r1 : Nat) (x2 : Int32) (x3 : Int32) (x4 : Int32) (x5 : Int32) (h : JH) : Prop :=
  (¬ x5 = x2 → W_X8_groups_214 D d Q K4 r0 r1 x2 x3 x4 x5 h) ∧ (x5 = x2 → ((300 : Int32) ≤ x2 → W_X8_groups_120 D d Q K4 r0 r1 x2 x3 x4 x5 r0 (0 : Int32) h) ∧ (¬ (300 : Int32) ≤ x2 → W_X8_groups_120 D d Q K4 r0 r1 x2 x3 x4 x5 r0 (1 : Int32) h))
theorem w_X8_groups_101 {D : JD} {d : Nat} {Q : JO → JH → Prop} {K4 : Nat → Nat → Int32 → Int32 → JH → Prop} {r0 : Nat} {r1 : Nat} {x2 : Int32} {x3 : Int32} {x4 : Int32} {x5 : Int32} {h : JH} (hK4 : ∀ (r0 : Nat) (r1 : Nat) (x2 : Int32) (x3 : Int32) (h : JH), K4 r0 r1 x2 x3 h → JW D (d + 1) mX8_groups 4 [some (vR 41 r0), some (vR 47 r1), some (vI x2), some (vI x3), none, none, none] [] h Q) (w : W_X8_groups_101 D d Q K4 r0 r1 x2 x3 x4 x5 h) : JW D (d + 1) mX8_groups 101 [some (vR 41 r0), some (vR 47 r1), some (vI x2), some (vI x3), some (vI x4), some (vI x5), none] [] h Q := by
  unfold W_X8_groups_101 at w
  refine jw_iload (pc' := 103) rfl rfl ?_
  refine jw_iload_n (pc' := 104) rfl rfl ?_
  refine jw_icmp_ne (tgt := 214) (pc' := 107) rfl rfl (fun c_1 => ?_) (fun c_1 => ?_)
  · replace w := w.1 c_1
    exact w_X8_groups_214 hK4 w
  · replace w := w.2 c_1
    refine jw_aload_n (pc' := 108) rfl rfl ?_
    refine jw_iload_n (pc' := 109) rfl rfl ?_
    refine jw_sipush (pc' := 112) (x := (300 : Int32)) rfl rfl ?_
    refine jw_icmp_ge (tgt := 119) (pc' := 115) rfl rfl (fun c_2 => ?_) (fun c_2 => ?_)
    · replace w := w.1 c_2
      refine jw_iconst (pc' := 120) (x := (0 : Int32)) rfl rfl ?_
      exact w_X8_groups_120 hK4 w
    · replace w := w.2 c_2
      refine jw_iconst (pc' := 116) (x := (1 : Int32)) rfl rfl ?_
      refine jw_goto (pc' := 120) rfl rfl ?_
      exact w_X8_groups_120 hK4 w
def W_X8_groups_66 (D : JD) (d : Nat) (Q : JO → JH → Prop) (K4 : Nat → Nat → Int32 → Int32 → JH → Prop) (K66 : Nat → Nat → Int32 → Int32 → Int32 → Int32 → JH → Prop) (r0 : Nat) (r1 : Nat) (x2 : Int32) (x3 : Int32) (x4 : Int32) (x5 : Int32) (h : JH) : Prop :=
  (x2 ≤ x5 → W_X8_groups_101 D d Q K4 r0 r1 x2 x3 x4 x5 h) ∧ (¬ x2 ≤ x5 → r0 ≠ 0 ∧ (r1 ≠ 0 ∧ (cX8_alikeAll D d (jfr h 216 r0) (jfr h 217 r0) ((8 : Int32) * x5) (jfi h 292 r1) h (pI D h (fun v_6 h_4 => (¬ v_6 = 0 → W_X8_groups_101 D d Q K4 r0 r1 x2 x3 x4 x5 h_4) ∧ (v_6 = 0 → K66 r0 r1 x2 x3 x4 (x5 + (1 : Int32)) h_4)) (jth Q)))))
theorem w_X8_groups_66 {D : JD} {d : Nat} {Q : JO → JH → Prop} {K4 : Nat → Nat → Int32 → Int32 → JH → Prop} {K66 : Nat → Nat → Int32 → Int32 → Int32 → Int32 → JH → Prop} {r0 : Nat} {r1 : Nat} {x2 : Int32} {x3 : Int32} {x4 : Int32} {x5 : Int32} {h : JH} (hK4 : ∀ (r0 : Nat) (r1 : Nat) (x2 : Int32) (x3 : Int32) (h : JH), K4 r0 r1 x2 x3 h → JW D (d + 1) mX8_groups 4 [some (vR 41 r0), some (vR 47 r1), some (vI x2), some (vI x3), none, none, none] [] h Q) (hK66 : ∀ (r0 : Nat) (r1 : Nat) (x2 : Int32) (x3 : Int32) (x4 : Int32) (x5 : Int32) (h : JH), K66 r0 r1 x2 x3 x4 x5 h → JW D (d + 1) mX8_groups 66 [some (vR 41 r0), some (vR 47 r1), some (vI x2), some (vI x3), some (vI x4), some (vI x5), none] [] h Q) (w : W_X8_groups_66 D d Q K4 K66 r0 r1 x2 x3 x4 x5 h) : JW D (d + 1) mX8_groups 66 [some (vR 41 r0), some (vR 47 r1), some (vI x2), some (vI x3), some (vI x4), some (vI x5), none] [] h Q := by
  unfold W_X8_groups_66 at w
  refine jw_iload (pc' := 68) rfl rfl ?_
  refine jw_iload_n (pc' := 69) rfl rfl ?_
  refine jw_icmp_ge (tgt := 101) (pc' := 72) rfl rfl (fun c_1 => ?_) (fun c_1 => ?_)
  · replace w := w.1 c_1
    exact w_X8_groups_101 hK4 w
  · replace w := w.2 c_1
    refine jw_aload_n (pc' := 73) rfl rfl ?_
    obtain ⟨g_2, w⟩ := w
    refine jw_getR (pc' := 76) (F := 216) (t' := 174) rfl rfl rfl rfl rfl g_2 ?_
    refine jw_aload_n (pc' := 77) rfl rfl ?_
    refine jw_getR (pc' := 80) (F := 217) (t' := 175) rfl rfl rfl rfl rfl g_2 ?_
    refine jw_bipush (pc' := 82) (x := (8 : Int32)) rfl rfl ?_
    refine jw_iload (pc' := 84) rfl rfl ?_
    refine jw_imul (pc' := 85) rfl ?_
    refine jw_aload_n (pc' := 86) rfl rfl ?_
    obtain ⟨g_3, w⟩ := w
    refine jw_getI (pc' := 89) (F := 292) rfl rfl rfl rfl g_3 ?_
    refine jw_cI (st := []) (sa := [vR 174 (jfr h 216 r0), vR 175 (jfr h 217 r0), vI ((8 : Int32) * x5), vI (jfi h 292 r1)]) okX8_alikeAll rfl rfl rfl rfl rfl rfl (jstp_static (sa := [vR 174 (jfr h 216 r0), vR 175 (jfr h 217 r0), vI ((8 : Int32) * x5), vI (jfi h 292 r1)]) (st := []) rfl rfl sX8_alikeAll okX8_alikeAll rfl rfl) w (fun v_6 h_4 _ _ w => ?_)
    refine jw_if_ne (tgt := 101) (pc' := 95) rfl rfl (fun c_7 => ?_) (fun c_7 => ?_)
    · replace w := w.1 c_7
      exact w_X8_groups_101 hK4 w
    · replace w := w.2 c_7
      refine jw_iinc (pc' := 98) (y := x5 + (1 : Int32)) (ls' := [some (vR 41 r0), some (vR 47 r1), some (vI x2), some (vI x3), some (vI x4), some (vI (x5 + (1 : Int32))), none]) rfl (by decide) rfl rfl rfl ?_
      refine jw_goto (pc' := 66) rfl rfl ?_
      exact hK66 _ _ _ _ _ _ _ w
def L_X8_groups_66 (D : JD) (d : Nat) (Q : JO → JH → Prop) (K4 : Nat → Nat → Int32 → Int32 → JH → Prop) : Nat → Nat → Nat → Int32 → Int32 → Int32 → Int32 → JH → Prop
  | 0 => fun _ _ _ _ _ _ _ => False
  | n + 1 => fun r0 r1 x2 x3 x4 x5 h => W_X8_groups_66 D d Q K4 (L_X8_groups_66 D d Q K4 n) r0 r1 x2 x3 x4 x5 h
theorem l_X8_groups_66 {D : JD} {d : Nat} {Q : JO → JH → Prop} {K4 : Nat → Nat → Int32 → Int32 → JH → Prop} (hK4 : ∀ (r0 : Nat) (r1 : Nat) (x2 : Int32) (x3 : Int32) (h : JH), K4 r0 r1 x2 x3 h → JW D (d + 1) mX8_groups 4 [some (vR 41 r0), some (vR 47 r1), some (vI x2), some (vI x3), none, none, none] [] h Q) : ∀ (n : Nat) (r0 : Nat) (r1 : Nat) (x2 : Int32) (x3 : Int32) (x4 : Int32) (x5 : Int32) (h : JH), L_X8_groups_66 D d Q K4 n r0 r1 x2 x3 x4 x5 h → JW D (d + 1) mX8_groups 66 [some (vR 41 r0), some (vR 47 r1), some (vI x2), some (vI x3), some (vI x4), some (vI x5), none] [] h Q := by
  intro n
  induction n with
  | zero => intro _ _ _ _ _ _ _ w; exact w.elim
  | succ n ih => intro _ _ _ _ _ _ h w; exact w_X8_groups_66 hK4 ih w
def W_X8_groups_26 (D : JD) (d : Nat) (Q : JO → JH → Prop) (K4 : Nat → Nat → Int32 → Int32 → JH → Prop) (K26 : Nat → Nat → Int32 → Int32 → Int32 → Int32 → JH → Prop) (r0 : Nat) (r1 : Nat) (x2 : Int32) (x3 : Int32) (x4 : Int32) (x5 : Int32) (h : JH) : Prop :=
  r1 ≠ 0 ∧ (((jfi h 292 r1) ≤ x5 → ∃ n, L_X8_groups_66 D d Q K4 n r0 r1 x2 x3 x4 (0 : Int32) h) ∧ (¬ (jfi h 292 r1) ≤ x5 → r0 ≠ 0 ∧ ((jfr h 291 r1) ≠ 0 ∧ jin x5 (jln h (jfr h 291 r1)) ∧ (cX8_eval D d r0 (jar h (jfr h 291 r1) (ixn x5)) h (pR D h 46 (fun v_8 h_6 => cX8_copy D d r0 v_8 h_6 (pR D h_6 46 (fun v_11 h_9 => (jfr h 216 r0) ≠ 0 ∧ jin x5 (jln h_9 (jfr h 216 r0)) ∧ ∀ h_14 : JH, h_14 = war h_9 (jfr h 216 r0) (ixn x5) v_11 → (K26 r0 r1 x2 x3 x4 (x5 + (1 : Int32)) h_14)) (jth Q))) (jth Q))))))
theorem w_X8_groups_26 {D : JD} {d : Nat} {Q : JO → JH → Prop} {K4 : Nat → Nat → Int32 → Int32 → JH → Prop} {K26 : Nat → Nat → Int32 → Int32 → Int32 → Int32 → JH → Prop} {r0 : Nat} {r1 : Nat} {x2 : Int32} {x3 : Int32} {x4 : Int32} {x5 : Int32} {h : JH} (hK4 : ∀ (r0 : Nat) (r1 : Nat) (x2 : Int32) (x3 : Int32) (h : JH), K4 r0 r1 x2 x3 h → JW D (d + 1) mX8_groups 4 [some (vR 41 r0), some (vR 47 r1), some (vI x2), some (vI x3), none, none, none] [] h Q) (hK26 : ∀ (r0 : Nat) (r1 : Nat) (x2 : Int32) (x3 : Int32) (x4 : Int32) (x5 : Int32) (h : JH), K26 r0 r1 x2 x3 x4 x5 h → JW D (d + 1) mX8_groups 26 [some (vR 41 r0), some (vR 47 r1), some (vI x2), some (vI x3), some (vI x4), some (vI x5), none] [] h Q) (w : W_X8_groups_26 D d Q K4 K26 r0 r1 x2 x3 x4 x5 h) : JW D (d + 1) mX8_groups 26 [some (vR 41 r0), some (vR 47 r1), some (vI x2), some (vI x3), some (vI x4), some (vI x5), none] [] h Q := by
  unfold W_X8_groups_26 at w
  refine jw_iload (pc' := 28) rfl rfl ?_
  refine jw_aload_n (pc' := 29) rfl rfl ?_
  obtain ⟨g_1, w⟩ := w
  refine jw_getI (pc' := 32) (F := 292) rfl rfl rfl rfl g_1 ?_
  refine jw_icmp_ge (tgt := 63) (pc' := 35) rfl rfl (fun c_2 => ?_) (fun c_2 => ?_)
  · replace w := w.1 c_2
    refine jw_iconst (pc' := 64) (x := (0 : Int32)) rfl rfl ?_
    refine jw_istore (pc' := 66) (ls' := [some (vR 41 r0), some (vR 47 r1), some (vI x2), some (vI x3), some (vI x4), some (vI (0 : Int32)), none]) rfl (by decide) rfl ?_
    obtain ⟨n, w⟩ := w
    exact l_X8_groups_66 hK4 n _ _ _ _ _ _ _ w
  · replace w := w.2 c_2
    refine jw_aload_n (pc' := 36) rfl rfl ?_
    obtain ⟨g_3, w⟩ := w
    refine jw_getR (pc' := 39) (F := 216) (t' := 174) rfl rfl rfl rfl rfl g_3 ?_
    refine jw_iload (pc' := 41) rfl rfl ?_
    refine jw_aload_n (pc' := 42) rfl rfl ?_
    refine jw_aload_n (pc' := 43) rfl rfl ?_
    refine jw_aload_n (pc' := 44) rfl rfl ?_
    refine jw_getR (pc' := 47) (F := 291) (t' := 209) rfl rfl rfl rfl rfl g_1 ?_
    refine jw_iload (pc' := 49) rfl rfl ?_
    obtain ⟨g_4, w⟩ := w
    obtain ⟨g_5, w⟩ := w
    refine jw_aald (pc' := 50) (t' := 48) rfl rfl rfl rfl g_4 g_5.ix g_5.2 ?_
    refine jw_cR (st := [vR 41 r0, vI x5, vR 174 (jfr h 216 r0)]) (sa := [vR 41 r0, vR 48 (jar h (jfr h 291 r1) (ixn x5))]) okX8_eval rfl rfl rfl rfl rfl rfl (jstp_virtual (sa := [vR 48 (jar h (jfr h 291 r1) (ixn x5))]) (st := [vR 41 r0, vI x5, vR 174 (jfr h 216 r0)]) (k := 0) rfl rfl sX8_eval okX8_eval g_3 (one41.k g_3) rfl rfl) w (fun v_8 h_6 _ _ _ w => ?_)
    refine jw_cR (st := [vI x5, vR 174 (jfr h 216 r0)]) (sa := [vR 41 r0, vR 46 v_8]) okX8_copy rfl rfl rfl rfl rfl rfl (jstp_virtual (sa := [vR 46 v_8]) (st := [vI x5, vR 174 (jfr h 216 r0)]) (k := 0) rfl rfl sX8_copy okX8_copy g_3 (one41.k g_3) rfl rfl) w (fun v_11 h_9 _ _ _ w => ?_)
    obtain ⟨g_12, w⟩ := w
    obtain ⟨g_13, w⟩ := w
    refine jw_aast' (pc' := 57) rfl rfl rfl rfl rfl rfl g_12 g_13 (fun h_14 e_15 => ?_)
    replace w := w h_14 e_15
    refine jw_iinc (pc' := 60) (y := x5 + (1 : Int32)) (ls' := [some (vR 41 r0), some (vR 47 r1), some (vI x2), some (vI x3), some (vI x4), some (vI (x5 + (1 : Int32))), none]) rfl (by decide) rfl rfl rfl ?_
    refine jw_goto (pc' := 26) rfl rfl ?_
    exact hK26 _ _ _ _ _ _ _ w
def L_X8_groups_26 (D : JD) (d : Nat) (Q : JO → JH → Prop) (K4 : Nat → Nat → Int32 → Int32 → JH → Prop) : Nat → Nat → Nat → Int32 → Int32 → Int32 → Int32 → JH → Prop
  | 0 => fun _ _ _ _ _ _ _ => False
  | n + 1 => fun r0 r1 x2 x3 x4 x5 h => W_X8_groups_26 D d Q K4 (L_X8_groups_26 D d Q K4 n) r0 r1 x2 x3 x4 x5 h
theorem l_X8_groups_26 {D : JD} {d : Nat} {Q : JO → JH → Prop} {K4 : Nat → Nat → Int32 → Int32 → JH → Prop} (hK4 : ∀ (r0 : Nat) (r1 : Nat) (x2 : Int32) (x3 : Int32) (h : JH), K4 r0 r1 x2 x3 h → JW D (d + 1) mX8_groups 4 [some (vR 41 r0), some (vR 47 r1), some (vI x2), some (vI x3), none, none, none] [] h Q) : ∀ (n : Nat) (r0 : Nat) (r1 : Nat) (x2 : Int32) (x3 : Int32) (x4 : Int32) (x5 : Int32) (h : JH), L_X8_groups_26 D d Q K4 n r0 r1 x2 x3 x4 x5 h → JW D (d + 1) mX8_groups 26 [some (vR 41 r0), some (vR 47 r1), some (vI x2), some (vI x3), some (vI x4), some (vI x5), none] [] h Q := by
  intro n
  induction n with
  | zero => intro _ _ _ _ _ _ _ w; exact w.elim
  | succ n ih => intro _ _ _ _ _ _ h w; exact w_X8_groups_26 hK4 ih w
def W_X8_groups_4 (D : JD) (d : Nat) (Q : JO → JH → Prop) (K4 : Nat → Nat → Int32 → Int32 → JH → Prop) (r0 : Nat) (r1 : Nat) (x2 : Int32) (x3 : Int32) (h : JH) : Prop :=
  r0 ≠ 0 ∧ (((jfi h 209 r0) ≤ x3 → r1 ≠ 0 ∧ ((¬ (jfi h 292 r1) = 0 → W_X8_groups_261 D d Q r0 r1 x2 h) ∧ ((jfi h 292 r1) = 0 → ((jfi h 209 r0) ≤ 0 → W_X8_groups_260 D d Q r0 r1 (1 : Int32) (jfr h 218 r0) (0 : Int32) (-1 : Int32) h) ∧ (¬ (jfi h 209 r0) ≤ 0 → W_X8_groups_260 D d Q r0 r1 (1 : Int32) (jfr h 218 r0) (0 : Int32) (0 : Int32) h)))) ∧ (¬ (jfi h 209 r0) ≤ x3 → cX8_useRow D d r0 x3 h (pV D h (fun h_6 => ∃ n, L_X8_groups_26 D d Q K4 n r0 r1 x2 x3 (jfi h_6 177 r0) (0 : Int32) h_6) (jth Q))))
theorem w_X8_groups_4 {D : JD} {d : Nat} {Q : JO → JH → Prop} {K4 : Nat → Nat → Int32 → Int32 → JH → Prop} {r0 : Nat} {r1 : Nat} {x2 : Int32} {x3 : Int32} {h : JH} (hK4 : ∀ (r0 : Nat) (r1 : Nat) (x2 : Int32) (x3 : Int32) (h : JH), K4 r0 r1 x2 x3 h → JW D (d + 1) mX8_groups 4 [some (vR 41 r0), some (vR 47 r1), some (vI x2), some (vI x3), none, none, none] [] h Q) (w : W_X8_groups_4 D d Q K4 r0 r1 x2 x3 h) : JW D (d + 1) mX8_groups 4 [some (vR 41 r0), some (vR 47 r1), some (vI x2), some (vI x3), none, none, none] [] h Q := by
  unfold W_X8_groups_4 at w
  refine jw_iload_n (pc' := 5) rfl rfl ?_
  refine jw_aload_n (pc' := 6) rfl rfl ?_
  obtain ⟨g_1, w⟩ := w
  refine jw_getI (pc' := 9) (F := 209) rfl rfl rfl rfl g_1 ?_
  refine jw_icmp_ge (tgt := 234) (pc' := 12) rfl rfl (fun c_2 => ?_) (fun c_2 => ?_)
  · replace w := w.1 c_2
    refine jw_aload_n (pc' := 235) rfl rfl ?_
    obtain ⟨g_3, w⟩ := w
    refine jw_getI (pc' := 238) (F := 292) rfl rfl rfl rfl g_3 ?_
    refine jw_if_ne (tgt := 261) (pc' := 241) rfl rfl (fun c_4 => ?_) (fun c_4 => ?_)
    · replace w := w.1 c_4
      refine jw_gen (ls' := [some (vR 41 r0), some (vR 47 r1), some (vI x2), none, none, none, none]) (st' := []) (And.intro (Or.inl rfl) (And.intro (Or.inl rfl) (And.intro (Or.inl rfl) (trivial)))) (trivial) ?_
      exact w_X8_groups_261 w
    · replace w := w.2 c_4
      refine jw_iconst (pc' := 242) (x := (1 : Int32)) rfl rfl ?_
      refine jw_istore_n (pc' := 243) (ls' := [some (vR 41 r0), some (vR 47 r1), some (vI (1 : Int32)), some (vI x3), none, none, none]) rfl (by decide) rfl ?_
      refine jw_aload_n (pc' := 244) rfl rfl ?_
      refine jw_getR (pc' := 247) (F := 218) (t' := 176) rfl rfl rfl rfl rfl g_1 ?_
      refine jw_iconst (pc' := 248) (x := (0 : Int32)) rfl rfl ?_
      refine jw_aload_n (pc' := 249) rfl rfl ?_
      refine jw_getI (pc' := 252) (F := 209) rfl rfl rfl rfl g_1 ?_
      refine jw_if_le (tgt := 259) (pc' := 255) rfl rfl (fun c_5 => ?_) (fun c_5 => ?_)
      · replace w := w.1 c_5
        refine jw_iconst (pc' := 260) (x := (-1 : Int32)) rfl rfl ?_
        refine jw_gen (ls' := [some (vR 41 r0), some (vR 47 r1), some (vI (1 : Int32)), none, none, none, none]) (st' := [vI (-1 : Int32), vI (0 : Int32), vR 176 (jfr h 218 r0)]) (And.intro (Or.inl rfl) (And.intro (Or.inl rfl) (And.intro (Or.inl rfl) (trivial)))) (And.intro (Or.inl rfl) (And.intro (Or.inl rfl) (And.intro (Or.inl rfl) (trivial)))) ?_
        exact w_X8_groups_260 w
      · replace w := w.2 c_5
        refine jw_iconst (pc' := 256) (x := (0 : Int32)) rfl rfl ?_
        refine jw_goto (pc' := 260) rfl rfl ?_
        refine jw_gen (ls' := [some (vR 41 r0), some (vR 47 r1), some (vI (1 : Int32)), none, none, none, none]) (st' := [vI (0 : Int32), vI (0 : Int32), vR 176 (jfr h 218 r0)]) (And.intro (Or.inl rfl) (And.intro (Or.inl rfl) (And.intro (Or.inl rfl) (trivial)))) (And.intro (Or.inl rfl) (And.intro (Or.inl rfl) (And.intro (Or.inl rfl) (trivial)))) ?_
        exact w_X8_groups_260 w
  · replace w := w.2 c_2
    refine jw_aload_n (pc' := 13) rfl rfl ?_
    refine jw_iload_n (pc' := 14) rfl rfl ?_
    refine jw_cV (st := []) (sa := [vR 41 r0, vI x3]) okX8_useRow rfl rfl rfl rfl rfl rfl (jstp_virtual (sa := [vI x3]) (st := []) (k := 0) rfl rfl sX8_useRow okX8_useRow g_1 (one41.k g_1) rfl rfl) w (fun h_6 _ _ w => ?_)
    refine jw_aload_n (pc' := 18) rfl rfl ?_
    refine jw_getI (pc' := 21) (F := 177) rfl rfl rfl rfl g_1 ?_
    refine jw_istore (pc' := 23) (ls' := [some (vR 41 r0), some (vR 47 r1), some (vI x2), some (vI x3), some (vI (jfi h_6 177 r0)), none, none]) rfl (by decide) rfl ?_
    refine jw_iconst (pc' := 24) (x := (0 : Int32)) rfl rfl ?_
    refine jw_istore (pc' := 26) (ls' := [some (vR 41 r0), some (vR 47 r1), some (vI x2), some (vI x3), some (vI (jfi h_6 177 r0)), some (vI (0 : Int32)), none]) rfl (by decide) rfl ?_
    obtain ⟨n, w⟩ := w
    exact l_X8_groups_26 hK4 n _ _ _ _ _ _ _ w
def L_X8_groups_4 (D : JD) (d : Nat) (Q : JO → JH → Prop) : Nat → Nat → Nat → Int32 → Int32 → JH → Prop
  | 0 => fun _ _ _ _ _ => False
  | n + 1 => fun r0 r1 x2 x3 h => W_X8_groups_4 D d Q (L_X8_groups_4 D d Q n) r0 r1 x2 x3 h
theorem l_X8_groups_4 {D : JD} {d : Nat} {Q : JO → JH → Prop} : ∀ (n : Nat) (r0 : Nat) (r1 : Nat) (x2 : Int32) (x3 : Int32) (h : JH), L_X8_groups_4 D d Q n r0 r1 x2 x3 h → JW D (d + 1) mX8_groups 4 [some (vR 41 r0), some (vR 47 r1), some (vI x2), some (vI x3), none, none, none] [] h Q := by
  intro n
  induction n with
  | zero => intro _ _ _ _ _ w; exact w.elim
  | succ n ih => intro _ _ _ _ h w; exact w_X8_groups_4 ih w
def W_X8_groups_0 (D : JD) (d : Nat) (Q : JO → JH → Prop) (r0 : Nat) (r1 : Nat) (h : JH) : Prop :=
  ∃ n, L_X8_groups_4 D d Q n r0 r1 (0 : Int32) (0 : Int32) h
theorem w_X8_groups_0 {D : JD} {d : Nat} {Q : JO → JH → Prop} {r0 : Nat} {r1 : Nat} {h : JH} (w : W_X8_groups_0 D d Q r0 r1 h) : JW D (d + 1) mX8_groups 0 [some (vR 41 r0), some (vR 47 r1), none, none, none, none, none] [] h Q := by
  unfold W_X8_groups_0 at w
  refine jw_iconst (pc' := 1) (x := (0 : Int32)) rfl rfl ?_
  refine jw_istore_n (pc' := 2) (ls' := [some (vR 41 r0), some (vR 47 r1), some (vI (0 : Int32)), none, none, none, none]) rfl (by decide) rfl ?_
  refine jw_iconst (pc' := 3) (x := (0 : Int32)) rfl rfl ?_
  refine jw_istore_n (pc' := 4) (ls' := [some (vR 41 r0), some (vR 47 r1), some (vI (0 : Int32)), some (vI (0 : Int32)), none, none, none]) rfl (by decide) rfl ?_
  obtain ⟨n, w⟩ := w
  exact l_X8_groups_4 n _ _ _ _ _ w
def T_X8_groups (D : JD) (d : Nat) (Q : JO → JH → Prop) (r0 : Nat) (r1 : Nat) (h : JH) : Prop := W_X8_groups_0 D d Q r0 r1 h
theorem t_X8_groups {D : JD} {d : Nat} {Q : JO → JH → Prop} {r0 : Nat} {r1 : Nat} {h : JH} (w : T_X8_groups D d Q r0 r1 h) : cX8_groups D (d + 1) r0 r1 h Q := by
  unfold T_X8_groups at w
  unfold cX8_groups
  exact w_X8_groups_0 w
def W_X8_alikeAll_3 (D : JD) (d : Nat) (Q : JO → JH → Prop) (K3 : Nat → Nat → Int32 → Int32 → Int32 → JH → Prop) (r0 : Nat) (r1 : Nat) (x2 : Int32) (x3 : Int32) (x4 : Int32) (h : JH) : Prop :=
  (x3 ≤ x4 → Q (.inl (some (vI (1 : Int32)))) h) ∧ (¬ x3 ≤ x4 → r0 ≠ 0 ∧ jin x4 (jln h r0) ∧ (r1 ≠ 0 ∧ jin (x2 + x4) (jln h r1) ∧ (cX8_alike D d (jar h r0 (ixn x4)) (jar h r1 (ixn (x2 + x4))) h (pI D h (fun v_8 h_6 => (¬ v_8 = 0 → K3 r0 r1 x2 x3 (x4 + (1 : Int32)) h_6) ∧ (v_8 = 0 → Q (.inl (some (vI (0 : Int32)))) h_6)) (jth Q)))))
theorem w_X8_alikeAll_3 {D : JD} {d : Nat} {Q : JO → JH → Prop} {K3 : Nat → Nat → Int32 → Int32 → Int32 → JH → Prop} {r0 : Nat} {r1 : Nat} {x2 : Int32} {x3 : Int32} {x4 : Int32} {h : JH} (hK3 : ∀ (r0 : Nat) (r1 : Nat) (x2 : Int32) (x3 : Int32) (x4 : Int32) (h : JH), K3 r0 r1 x2 x3 x4 h → JW D (d + 1) mX8_alikeAll 3 [some (vR 86 r0), some (vR 86 r1), some (vI x2), some (vI x3), some (vI x4)] [] h Q) (w : W_X8_alikeAll_3 D d Q K3 r0 r1 x2 x3 x4 h) : JW D (d + 1) mX8_alikeAll 3 [some (vR 86 r0), some (vR 86 r1), some (vI x2), some (vI x3), some (vI x4)] [] h Q := by
  unfold W_X8_alikeAll_3 at w
  refine jw_iload (pc' := 5) rfl rfl ?_
  refine jw_iload_n (pc' := 6) rfl rfl ?_
  refine jw_icmp_ge (tgt := 33) (pc' := 9) rfl rfl (fun c_1 => ?_) (fun c_1 => ?_)
  · replace w := w.1 c_1
    refine jw_iconst (pc' := 34) (x := (1 : Int32)) rfl rfl ?_
    exact jw_ireturn rfl rfl (rfl) w
  · replace w := w.2 c_1
    refine jw_aload_n (pc' := 10) rfl rfl ?_
    refine jw_iload (pc' := 12) rfl rfl ?_
    obtain ⟨g_2, w⟩ := w
    obtain ⟨g_3, w⟩ := w
    refine jw_aald (pc' := 13) (t' := 46) rfl rfl rfl rfl g_2 g_3.ix g_3.2 ?_
    refine jw_aload_n (pc' := 14) rfl rfl ?_
    refine jw_iload_n (pc' := 15) rfl rfl ?_
    refine jw_iload (pc' := 17) rfl rfl ?_
    refine jw_iadd (pc' := 18) rfl ?_
    obtain ⟨g_4, w⟩ := w
    obtain ⟨g_5, w⟩ := w
    refine jw_aald (pc' := 19) (t' := 46) rfl rfl rfl rfl g_4 g_5.ix g_5.2 ?_
    refine jw_cI (st := []) (sa := [vR 46 (jar h r0 (ixn x4)), vR 46 (jar h r1 (ixn (x2 + x4)))]) okX8_alike rfl rfl rfl rfl rfl rfl (jstp_static (sa := [vR 46 (jar h r0 (ixn x4)), vR 46 (jar h r1 (ixn (x2 + x4)))]) (st := []) rfl rfl sX8_alike okX8_alike rfl rfl) w (fun v_8 h_6 _ _ w => ?_)
    refine jw_if_ne (tgt := 27) (pc' := 25) rfl rfl (fun c_9 => ?_) (fun c_9 => ?_)
    · replace w := w.1 c_9
      refine jw_iinc (pc' := 30) (y := x4 + (1 : Int32)) (ls' := [some (vR 86 r0), some (vR 86 r1), some (vI x2), some (vI x3), some (vI (x4 + (1 : Int32)))]) rfl (by decide) rfl rfl rfl ?_
      refine jw_goto (pc' := 3) rfl rfl ?_
      exact hK3 _ _ _ _ _ _ w
    · replace w := w.2 c_9
      refine jw_iconst (pc' := 26) (x := (0 : Int32)) rfl rfl ?_
      exact jw_ireturn rfl rfl (rfl) w
def L_X8_alikeAll_3 (D : JD) (d : Nat) (Q : JO → JH → Prop) : Nat → Nat → Nat → Int32 → Int32 → Int32 → JH → Prop
  | 0 => fun _ _ _ _ _ _ => False
  | n + 1 => fun r0 r1 x2 x3 x4 h => W_X8_alikeAll_3 D d Q (L_X8_alikeAll_3 D d Q n) r0 r1 x2 x3 x4 h
theorem l_X8_alikeAll_3 {D : JD} {d : Nat} {Q : JO → JH → Prop} : ∀ (n : Nat) (r0 : Nat) (r1 : Nat) (x2 : Int32) (x3 : Int32) (x4 : Int32) (h : JH), L_X8_alikeAll_3 D d Q n r0 r1 x2 x3 x4 h → JW D (d + 1) mX8_alikeAll 3 [some (vR 86 r0), some (vR 86 r1), some (vI x2), some (vI x3), some (vI x4)] [] h Q := by
  intro n
  induction n with
  | zero => intro _ _ _ _ _ _ w; exact w.elim
  | succ n ih => intro _ _ _ _ _ h w; exact w_X8_alikeAll_3 ih w
def W_X8_alikeAll_0 (D : JD) (d : Nat) (Q : JO → JH → Prop) (r0 : Nat) (r1 : Nat) (x2 : Int32) (x3 : Int32) (h : JH) : Prop :=
  ∃ n, L_X8_alikeAll_3 D d Q n r0 r1 x2 x3 (0 : Int32) h
theorem w_X8_alikeAll_0 {D : JD} {d : Nat} {Q : JO → JH → Prop} {r0 : Nat} {r1 : Nat} {x2 : Int32} {x3 : Int32} {h : JH} (w : W_X8_alikeAll_0 D d Q r0 r1 x2 x3 h) : JW D (d + 1) mX8_alikeAll 0 [some (vR 86 r0), some (vR 86 r1), some (vI x2), some (vI x3), none] [] h Q := by
  unfold W_X8_alikeAll_0 at w
  refine jw_iconst (pc' := 1) (x := (0 : Int32)) rfl rfl ?_
  refine jw_istore (pc' := 3) (ls' := [some (vR 86 r0), some (vR 86 r1), some (vI x2), some (vI x3), some (vI (0 : Int32))]) rfl (by decide) rfl ?_
  obtain ⟨n, w⟩ := w
  exact l_X8_alikeAll_3 n _ _ _ _ _ _ w
def T_X8_alikeAll (D : JD) (d : Nat) (Q : JO → JH → Prop) (r0 : Nat) (r1 : Nat) (x2 : Int32) (x3 : Int32) (h : JH) : Prop := W_X8_alikeAll_0 D d Q r0 r1 x2 x3 h
theorem t_X8_alikeAll {D : JD} {d : Nat} {Q : JO → JH → Prop} {r0 : Nat} {r1 : Nat} {x2 : Int32} {x3 : Int32} {h : JH} (w : T_X8_alikeAll D d Q r0 r1 x2 x3 h) : cX8_alikeAll D (d + 1) r0 r1 x2 x3 h Q := by
  unfold T_X8_alikeAll at w
  unfold cX8_alikeAll
  exact w_X8_alikeAll_0 w
def W_X8_enter_37 (D : JD) (d : Nat) (Q : JO → JH → Prop) (h : JH) : Prop :=
  Q (.inl none) h
theorem w_X8_enter_37 {D : JD} {d : Nat} {Q : JO → JH → Prop} {h : JH} (w : W_X8_enter_37 D d Q h) : JW D (d + 1) mX8_enter 37 [none, none, none, none] [] h Q := by
  unfold W_X8_enter_37 at w
  exact jw_return rfl rfl w
def W_X8_enter_19 (D : JD) (d : Nat) (Q : JO → JH → Prop) (K19 : Nat → Int32 → JH → Prop) (r0 : Nat) (x3 : Int32) (h : JH) : Prop :=
  ((3 : Int32) ≤ x3 → W_X8_enter_37 D d Q h) ∧ (¬ (3 : Int32) ≤ x3 → r0 ≠ 0 ∧ ((jfr h 204 r0) ≠ 0 ∧ jin x3 (jln h (jfr h 204 r0)) ∧ ∀ h_5 : JH, h_5 = wai h (jfr h 204 r0) (ixn x3) (-1 : Int32) → (K19 r0 (x3 + (1 : Int32)) h_5)))
theorem w_X8_enter_19 {D : JD} {d : Nat} {Q : JO → JH → Prop} {K19 : Nat → Int32 → JH → Prop} {r0 : Nat} {x3 : Int32} {h : JH} (hK19 : ∀ (r0 : Nat) (x3 : Int32) (h : JH), K19 r0 x3 h → JW D (d + 1) mX8_enter 19 [some (vR 41 r0), none, none, some (vI x3)] [] h Q) (w : W_X8_enter_19 D d Q K19 r0 x3 h) : JW D (d + 1) mX8_enter 19 [some (vR 41 r0), none, none, some (vI x3)] [] h Q := by
  unfold W_X8_enter_19 at w
  refine jw_iload_n (pc' := 20) rfl rfl ?_
  refine jw_iconst (pc' := 21) (x := (3 : Int32)) rfl rfl ?_
  refine jw_icmp_ge (tgt := 37) (pc' := 24) rfl rfl (fun c_1 => ?_) (fun c_1 => ?_)
  · replace w := w.1 c_1
    refine jw_gen (ls' := [none, none, none, none]) (st' := []) (trivial) (trivial) ?_
    exact w_X8_enter_37 w
  · replace w := w.2 c_1
    refine jw_aload_n (pc' := 25) rfl rfl ?_
    obtain ⟨g_2, w⟩ := w
    refine jw_getR (pc' := 28) (F := 204) (t' := 168) rfl rfl rfl rfl rfl g_2 ?_
    refine jw_iload_n (pc' := 29) rfl rfl ?_
    refine jw_iconst (pc' := 30) (x := (-1 : Int32)) rfl rfl ?_
    obtain ⟨g_3, w⟩ := w
    obtain ⟨g_4, w⟩ := w
    refine jw_iast' (pc' := 31) rfl rfl rfl rfl rfl g_3 g_4 (fun h_5 e_6 => ?_)
    replace w := w h_5 e_6
    refine jw_iinc (pc' := 34) (y := x3 + (1 : Int32)) (ls' := [some (vR 41 r0), none, none, some (vI (x3 + (1 : Int32)))]) rfl (by decide) rfl rfl rfl ?_
    refine jw_goto (pc' := 19) rfl rfl ?_
    exact hK19 _ _ _ w
def L_X8_enter_19 (D : JD) (d : Nat) (Q : JO → JH → Prop) : Nat → Nat → Int32 → JH → Prop
  | 0 => fun _ _ _ => False
  | n + 1 => fun r0 x3 h => W_X8_enter_19 D d Q (L_X8_enter_19 D d Q n) r0 x3 h
theorem l_X8_enter_19 {D : JD} {d : Nat} {Q : JO → JH → Prop} : ∀ (n : Nat) (r0 : Nat) (x3 : Int32) (h : JH), L_X8_enter_19 D d Q n r0 x3 h → JW D (d + 1) mX8_enter 19 [some (vR 41 r0), none, none, some (vI x3)] [] h Q := by
  intro n
  induction n with
  | zero => intro _ _ _ w; exact w.elim
  | succ n ih => intro _ _ h w; exact w_X8_enter_19 ih w
def W_X8_enter_0 (D : JD) (d : Nat) (Q : JO → JH → Prop) (r0 : Nat) (x1 : Int32) (x2 : Int32) (h : JH) : Prop :=
  r0 ≠ 0 ∧ ∀ h_2 : JH, h_2 = wfi h 205 r0 x1 → ((x2 < 0 → ∃ n, L_X8_enter_19 D d Q n r0 (0 : Int32) h_2) ∧ (¬ x2 < 0 → cX8_useRow D d r0 x2 h_2 (pV D h_2 (fun h_5 => W_X8_enter_37 D d Q h_5) (jth Q))))
theorem w_X8_enter_0 {D : JD} {d : Nat} {Q : JO → JH → Prop} {r0 : Nat} {x1 : Int32} {x2 : Int32} {h : JH} (w : W_X8_enter_0 D d Q r0 x1 x2 h) : JW D (d + 1) mX8_enter 0 [some (vR 41 r0), some (vI x1), some (vI x2), none] [] h Q := by
  unfold W_X8_enter_0 at w
  refine jw_aload_n (pc' := 1) rfl rfl ?_
  refine jw_iload_n (pc' := 2) rfl rfl ?_
  obtain ⟨g_1, w⟩ := w
  refine jw_putI' (pc' := 5) (F := 205) rfl rfl rfl (Or.inr rfl) (Or.inl rfl) rfl (rfl) (rfl) rfl g_1 (fun h_2 e_3 => ?_)
  replace w := w h_2 e_3
  refine jw_iload_n (pc' := 6) rfl rfl ?_
  refine jw_if_lt (tgt := 17) (pc' := 9) rfl rfl (fun c_4 => ?_) (fun c_4 => ?_)
  · replace w := w.1 c_4
    refine jw_iconst (pc' := 18) (x := (0 : Int32)) rfl rfl ?_
    refine jw_istore_n (pc' := 19) (ls' := [some (vR 41 r0), some (vI x1), some (vI x2), some (vI (0 : Int32))]) rfl (by decide) rfl ?_
    refine jw_gen (ls' := [some (vR 41 r0), none, none, some (vI (0 : Int32))]) (st' := []) (And.intro (Or.inl rfl) (And.intro (Or.inl rfl) (trivial))) (trivial) ?_
    obtain ⟨n, w⟩ := w
    exact l_X8_enter_19 n _ _ _ w
  · replace w := w.2 c_4
    refine jw_aload_n (pc' := 10) rfl rfl ?_
    refine jw_iload_n (pc' := 11) rfl rfl ?_
    refine jw_cV (st := []) (sa := [vR 41 r0, vI x2]) okX8_useRow rfl rfl rfl rfl rfl rfl (jstp_virtual (sa := [vI x2]) (st := []) (k := 0) rfl rfl sX8_useRow okX8_useRow g_1 (one41.k g_1) rfl rfl) w (fun h_5 _ _ w => ?_)
    refine jw_goto (pc' := 37) rfl rfl ?_
    refine jw_gen (ls' := [none, none, none, none]) (st' := []) (trivial) (trivial) ?_
    exact w_X8_enter_37 w
def T_X8_enter (D : JD) (d : Nat) (Q : JO → JH → Prop) (r0 : Nat) (x1 : Int32) (x2 : Int32) (h : JH) : Prop := W_X8_enter_0 D d Q r0 x1 x2 h
theorem t_X8_enter {D : JD} {d : Nat} {Q : JO → JH → Prop} {r0 : Nat} {x1 : Int32} {x2 : Int32} {h : JH} (w : T_X8_enter D d Q r0 x1 x2 h) : cX8_enter D (d + 1) r0 x1 x2 h Q := by
  unfold T_X8_enter at w
  unfold cX8_enter
  exact w_X8_enter_0 w
def W_X8_out_231 (D : JD) (d : Nat) (Q : JO → JH → Prop) (K169 : Nat → Nat → Int32 → Int32 → JH → Prop) (r0 : Nat) (r1 : Nat) (x2 : Int32) (x3 : Int32) (q0 : Nat) (s1 : Int32) (q2 : Nat) (h : JH) : Prop :=
  cX8_keep D d q0 s1 q2 h (pV D h (fun h_1 => r0 ≠ 0 ∧ ∀ h_5 : JH, h_5 = wfi h_1 177 r0 x2 → (K169 r0 r1 x2 (x3 + (1 : Int32)) h_5)) (jth Q))
theorem w_X8_out_231 {D : JD} {d : Nat} {Q : JO → JH → Prop} {K169 : Nat → Nat → Int32 → Int32 → JH → Prop} {r0 : Nat} {r1 : Nat} {x2 : Int32} {x3 : Int32} {q0 : Nat} {s1 : Int32} {q2 : Nat} {h : JH} (hK169 : ∀ (r0 : Nat) (r1 : Nat) (x2 : Int32) (x3 : Int32) (h : JH), K169 r0 r1 x2 x3 h → JW D (d + 1) mX8_out 169 [some (vR 41 r0), some (vR 47 r1), some (vI x2), some (vI x3)] [] h Q) (w : W_X8_out_231 D d Q K169 r0 r1 x2 x3 q0 s1 q2 h) : JW D (d + 1) mX8_out 231 [some (vR 41 r0), some (vR 47 r1), some (vI x2), some (vI x3)] [vR 46 q2, vI s1, vR 172 q0] h Q := by
  unfold W_X8_out_231 at w
  refine jw_cV (st := []) (sa := [vR 172 q0, vI s1, vR 46 q2]) okX8_keep rfl rfl rfl rfl rfl rfl (jstp_static (sa := [vR 172 q0, vI s1, vR 46 q2]) (st := []) rfl rfl sX8_keep okX8_keep rfl rfl) w (fun h_1 _ _ w => ?_)
  refine jw_aload_n (pc' := 235) rfl rfl ?_
  refine jw_iload_n (pc' := 236) rfl rfl ?_
  obtain ⟨g_4, w⟩ := w
  refine jw_putI' (pc' := 239) (F := 177) rfl rfl rfl (Or.inr rfl) (Or.inl rfl) rfl (rfl) (rfl) rfl g_4 (fun h_5 e_6 => ?_)
  replace w := w h_5 e_6
  refine jw_iinc (pc' := 242) (y := x3 + (1 : Int32)) (ls' := [some (vR 41 r0), some (vR 47 r1), some (vI x2), some (vI (x3 + (1 : Int32)))]) rfl (by decide) rfl rfl rfl ?_
  refine jw_goto (pc' := 169) rfl rfl ?_
  exact hK169 _ _ _ _ _ w
def W_X8_out_169 (D : JD) (d : Nat) (Q : JO → JH → Prop) (K169 : Nat → Nat → Int32 → Int32 → JH → Prop) (r0 : Nat) (r1 : Nat) (x2 : Int32) (x3 : Int32) (h : JH) : Prop :=
  r1 ≠ 0 ∧ (((jfi h 296 r1) ≤ x3 → r0 ≠ 0 ∧ ((jfr h 214 r0) ≠ 0 ∧ jin (jfi h 215 r0) (jln h (jfr h 214 r0)) ∧ ∀ h_6 : JH, h_6 = wai h (jfr h 214 r0) (ixn (jfi h 215 r0)) (jfi h 215 r0) → (∀ h_8 : JH, h_8 = wfi h_6 215 r0 ((jfi h_6 215 r0) + (1 : Int32)) → (Q (.inl none) h_8)))) ∧ (¬ (jfi h 296 r1) ≤ x3 → r0 ≠ 0 ∧ ((jfr h 304 r1) ≠ 0 ∧ jin x3 (jln h (jfr h 304 r1)) ∧ (((jai h (jfr h 304 r1) (ixn x3)) < 0 → (jfr h 294 r1) ≠ 0 ∧ jin x3 (jln h (jfr h 294 r1)) ∧ (cX8_eval D d r0 (jar h (jfr h 294 r1) (ixn x3)) h (pR D h 46 (fun v_18 h_16 => W_X8_out_231 D d Q K169 r0 r1 x2 x3 (jfr h 213 r0) (((8 : Int32) * (jfi h 215 r0)) + x3) v_18 h_16) (jth Q)))) ∧ (¬ (jai h (jfr h 304 r1) (ixn x3)) < 0 → jin x3 (jln h (jfr h 304 r1)) ∧ ((jfr h 212 r0) ≠ 0 ∧ jin (((16 : Int32) * (jfi h 215 r0)) + (jai h (jfr h 304 r1) (ixn x3))) (jln h (jfr h 212 r0)) ∧ (W_X8_out_231 D d Q K169 r0 r1 x2 x3 (jfr h 213 r0) (((8 : Int32) * (jfi h 215 r0)) + x3) (jar h (jfr h 212 r0) (ixn (((16 : Int32) * (jfi h 215 r0)) + (jai h (jfr h 304 r1) (ixn x3))))) h)))))))
theorem w_X8_out_169 {D : JD} {d : Nat} {Q : JO → JH → Prop} {K169 : Nat → Nat → Int32 → Int32 → JH → Prop} {r0 : Nat} {r1 : Nat} {x2 : Int32} {x3 : Int32} {h : JH} (hK169 : ∀ (r0 : Nat) (r1 : Nat) (x2 : Int32) (x3 : Int32) (h : JH), K169 r0 r1 x2 x3 h → JW D (d + 1) mX8_out 169 [some (vR 41 r0), some (vR 47 r1), some (vI x2), some (vI x3)] [] h Q) (w : W_X8_out_169 D d Q K169 r0 r1 x2 x3 h) : JW D (d + 1) mX8_out 169 [some (vR 41 r0), some (vR 47 r1), some (vI x2), some (vI x3)] [] h Q := by
  unfold W_X8_out_169 at w
  refine jw_iload_n (pc' := 170) rfl rfl ?_
  refine jw_aload_n (pc' := 171) rfl rfl ?_
  obtain ⟨g_1, w⟩ := w
  refine jw_getI (pc' := 174) (F := 296) rfl rfl rfl rfl g_1 ?_
  refine jw_icmp_ge (tgt := 245) (pc' := 177) rfl rfl (fun c_2 => ?_) (fun c_2 => ?_)
  · replace w := w.1 c_2
    refine jw_aload_n (pc' := 246) rfl rfl ?_
    obtain ⟨g_3, w⟩ := w
    refine jw_getR (pc' := 249) (F := 214) (t' := 173) rfl rfl rfl rfl rfl g_3 ?_
    refine jw_aload_n (pc' := 250) rfl rfl ?_
    refine jw_getI (pc' := 253) (F := 215) rfl rfl rfl rfl g_3 ?_
    refine jw_aload_n (pc' := 254) rfl rfl ?_
    refine jw_getI (pc' := 257) (F := 215) rfl rfl rfl rfl g_3 ?_
    obtain ⟨g_4, w⟩ := w
    obtain ⟨g_5, w⟩ := w
    refine jw_iast' (pc' := 258) rfl rfl rfl rfl rfl g_4 g_5 (fun h_6 e_7 => ?_)
    replace w := w h_6 e_7
    refine jw_aload_n (pc' := 259) rfl rfl ?_
    refine jw_dup (pc' := 260) rfl rfl ?_
    refine jw_getI (pc' := 263) (F := 215) rfl rfl rfl rfl g_3 ?_
    refine jw_iconst (pc' := 264) (x := (1 : Int32)) rfl rfl ?_
    refine jw_iadd (pc' := 265) rfl ?_
    refine jw_putI' (pc' := 268) (F := 215) rfl rfl rfl (Or.inr rfl) (Or.inl rfl) rfl (rfl) (rfl) rfl g_3 (fun h_8 e_9 => ?_)
    replace w := w h_8 e_9
    exact jw_return rfl rfl w
  · replace w := w.2 c_2
    refine jw_aload_n (pc' := 178) rfl rfl ?_
    obtain ⟨g_10, w⟩ := w
    refine jw_getR (pc' := 181) (F := 213) (t' := 172) rfl rfl rfl rfl rfl g_10 ?_
    refine jw_bipush (pc' := 183) (x := (8 : Int32)) rfl rfl ?_
    refine jw_aload_n (pc' := 184) rfl rfl ?_
    refine jw_getI (pc' := 187) (F := 215) rfl rfl rfl rfl g_10 ?_
    refine jw_imul (pc' := 188) rfl ?_
    refine jw_iload_n (pc' := 189) rfl rfl ?_
    refine jw_iadd (pc' := 190) rfl ?_
    refine jw_aload_n (pc' := 191) rfl rfl ?_
    refine jw_getR (pc' := 194) (F := 304) (t' := 214) rfl rfl rfl rfl rfl g_1 ?_
    refine jw_iload_n (pc' := 195) rfl rfl ?_
    obtain ⟨g_11, w⟩ := w
    obtain ⟨g_12, w⟩ := w
    refine jw_iald (pc' := 196) rfl rfl rfl rfl g_11 g_12.ix g_12.2 ?_
    refine jw_if_lt (tgt := 221) (pc' := 199) rfl rfl (fun c_13 => ?_) (fun c_13 => ?_)
    · replace w := w.1 c_13
      refine jw_aload_n (pc' := 222) rfl rfl ?_
      refine jw_aload_n (pc' := 223) rfl rfl ?_
      refine jw_getR (pc' := 226) (F := 294) (t' := 210) rfl rfl rfl rfl rfl g_1 ?_
      refine jw_iload_n (pc' := 227) rfl rfl ?_
      obtain ⟨g_14, w⟩ := w
      obtain ⟨g_15, w⟩ := w
      refine jw_aald (pc' := 228) (t' := 48) rfl rfl rfl rfl g_14 g_15.ix g_15.2 ?_
      refine jw_cR (st := [vI (((8 : Int32) * (jfi h 215 r0)) + x3), vR 172 (jfr h 213 r0)]) (sa := [vR 41 r0, vR 48 (jar h (jfr h 294 r1) (ixn x3))]) okX8_eval rfl rfl rfl rfl rfl rfl (jstp_virtual (sa := [vR 48 (jar h (jfr h 294 r1) (ixn x3))]) (st := [vI (((8 : Int32) * (jfi h 215 r0)) + x3), vR 172 (jfr h 213 r0)]) (k := 0) rfl rfl sX8_eval okX8_eval g_10 (one41.k g_10) rfl rfl) w (fun v_18 h_16 _ _ _ w => ?_)
      exact w_X8_out_231 hK169 w
    · replace w := w.2 c_13
      refine jw_aload_n (pc' := 200) rfl rfl ?_
      refine jw_getR (pc' := 203) (F := 212) (t' := 172) rfl rfl rfl rfl rfl g_10 ?_
      refine jw_bipush (pc' := 205) (x := (16 : Int32)) rfl rfl ?_
      refine jw_aload_n (pc' := 206) rfl rfl ?_
      refine jw_getI (pc' := 209) (F := 215) rfl rfl rfl rfl g_10 ?_
      refine jw_imul (pc' := 210) rfl ?_
      refine jw_aload_n (pc' := 211) rfl rfl ?_
      refine jw_getR (pc' := 214) (F := 304) (t' := 214) rfl rfl rfl rfl rfl g_1 ?_
      refine jw_iload_n (pc' := 215) rfl rfl ?_
      obtain ⟨g_19, w⟩ := w
      refine jw_iald (pc' := 216) rfl rfl rfl rfl g_11 g_19.ix g_19.2 ?_
      refine jw_iadd (pc' := 217) rfl ?_
      obtain ⟨g_20, w⟩ := w
      obtain ⟨g_21, w⟩ := w
      refine jw_aald (pc' := 218) (t' := 46) rfl rfl rfl rfl g_20 g_21.ix g_21.2 ?_
      refine jw_goto (pc' := 231) rfl rfl ?_
      exact w_X8_out_231 hK169 w
def L_X8_out_169 (D : JD) (d : Nat) (Q : JO → JH → Prop) : Nat → Nat → Nat → Int32 → Int32 → JH → Prop
  | 0 => fun _ _ _ _ _ => False
  | n + 1 => fun r0 r1 x2 x3 h => W_X8_out_169 D d Q (L_X8_out_169 D d Q n) r0 r1 x2 x3 h
theorem l_X8_out_169 {D : JD} {d : Nat} {Q : JO → JH → Prop} : ∀ (n : Nat) (r0 : Nat) (r1 : Nat) (x2 : Int32) (x3 : Int32) (h : JH), L_X8_out_169 D d Q n r0 r1 x2 x3 h → JW D (d + 1) mX8_out 169 [some (vR 41 r0), some (vR 47 r1), some (vI x2), some (vI x3)] [] h Q := by
  intro n
  induction n with
  | zero => intro _ _ _ _ _ w; exact w.elim
  | succ n ih => intro _ _ _ _ h w; exact w_X8_out_169 ih w
def W_X8_out_122 (D : JD) (d : Nat) (Q : JO → JH → Prop) (K122 : Nat → Nat → Int32 → Int32 → JH → Prop) (r0 : Nat) (r1 : Nat) (x2 : Int32) (x3 : Int32) (h : JH) : Prop :=
  r1 ≠ 0 ∧ (((jfi h 302 r1) ≤ x3 → ∃ n, L_X8_out_169 D d Q n r0 r1 x2 (0 : Int32) h) ∧ (¬ (jfi h 302 r1) ≤ x3 → r0 ≠ 0 ∧ ((jfr h 300 r1) ≠ 0 ∧ jin x3 (jln h (jfr h 300 r1)) ∧ (cX8_eval D d r0 (jar h (jfr h 300 r1) (ixn x3)) h (pR D h 46 (fun v_8 h_6 => cX8_keep D d (jfr h 212 r0) (((16 : Int32) * (jfi h 215 r0)) + x3) v_8 h_6 (pV D h_6 (fun h_9 => ∀ h_12 : JH, h_12 = wfi h_9 177 r0 x2 → (K122 r0 r1 x2 (x3 + (1 : Int32)) h_12)) (jth Q))) (jth Q))))))
theorem w_X8_out_122 {D : JD} {d : Nat} {Q : JO → JH → Prop} {K122 : Nat → Nat → Int32 → Int32 → JH → Prop} {r0 : Nat} {r1 : Nat} {x2 : Int32} {x3 : Int32} {h : JH} (hK122 : ∀ (r0 : Nat) (r1 : Nat) (x2 : Int32) (x3 : Int32) (h : JH), K122 r0 r1 x2 x3 h → JW D (d + 1) mX8_out 122 [some (vR 41 r0), some (vR 47 r1), some (vI x2), some (vI x3)] [] h Q) (w : W_X8_out_122 D d Q K122 r0 r1 x2 x3 h) : JW D (d + 1) mX8_out 122 [some (vR 41 r0), some (vR 47 r1), some (vI x2), some (vI x3)] [] h Q := by
  unfold W_X8_out_122 at w
  refine jw_iload_n (pc' := 123) rfl rfl ?_
  refine jw_aload_n (pc' := 124) rfl rfl ?_
  obtain ⟨g_1, w⟩ := w
  refine jw_getI (pc' := 127) (F := 302) rfl rfl rfl rfl g_1 ?_
  refine jw_icmp_ge (tgt := 167) (pc' := 130) rfl rfl (fun c_2 => ?_) (fun c_2 => ?_)
  · replace w := w.1 c_2
    refine jw_iconst (pc' := 168) (x := (0 : Int32)) rfl rfl ?_
    refine jw_istore_n (pc' := 169) (ls' := [some (vR 41 r0), some (vR 47 r1), some (vI x2), some (vI (0 : Int32))]) rfl (by decide) rfl ?_
    obtain ⟨n, w⟩ := w
    exact l_X8_out_169 n _ _ _ _ _ w
  · replace w := w.2 c_2
    refine jw_aload_n (pc' := 131) rfl rfl ?_
    obtain ⟨g_3, w⟩ := w
    refine jw_getR (pc' := 134) (F := 212) (t' := 172) rfl rfl rfl rfl rfl g_3 ?_
    refine jw_bipush (pc' := 136) (x := (16 : Int32)) rfl rfl ?_
    refine jw_aload_n (pc' := 137) rfl rfl ?_
    refine jw_getI (pc' := 140) (F := 215) rfl rfl rfl rfl g_3 ?_
    refine jw_imul (pc' := 141) rfl ?_
    refine jw_iload_n (pc' := 142) rfl rfl ?_
    refine jw_iadd (pc' := 143) rfl ?_
    refine jw_aload_n (pc' := 144) rfl rfl ?_
    refine jw_aload_n (pc' := 145) rfl rfl ?_
    refine jw_getR (pc' := 148) (F := 300) (t' := 212) rfl rfl rfl rfl rfl g_1 ?_
    refine jw_iload_n (pc' := 149) rfl rfl ?_
    obtain ⟨g_4, w⟩ := w
    obtain ⟨g_5, w⟩ := w
    refine jw_aald (pc' := 150) (t' := 48) rfl rfl rfl rfl g_4 g_5.ix g_5.2 ?_
    refine jw_cR (st := [vI (((16 : Int32) * (jfi h 215 r0)) + x3), vR 172 (jfr h 212 r0)]) (sa := [vR 41 r0, vR 48 (jar h (jfr h 300 r1) (ixn x3))]) okX8_eval rfl rfl rfl rfl rfl rfl (jstp_virtual (sa := [vR 48 (jar h (jfr h 300 r1) (ixn x3))]) (st := [vI (((16 : Int32) * (jfi h 215 r0)) + x3), vR 172 (jfr h 212 r0)]) (k := 0) rfl rfl sX8_eval okX8_eval g_3 (one41.k g_3) rfl rfl) w (fun v_8 h_6 _ _ _ w => ?_)
    refine jw_cV (st := []) (sa := [vR 172 (jfr h 212 r0), vI (((16 : Int32) * (jfi h 215 r0)) + x3), vR 46 v_8]) okX8_keep rfl rfl rfl rfl rfl rfl (jstp_static (sa := [vR 172 (jfr h 212 r0), vI (((16 : Int32) * (jfi h 215 r0)) + x3), vR 46 v_8]) (st := []) rfl rfl sX8_keep okX8_keep rfl rfl) w (fun h_9 _ _ w => ?_)
    refine jw_aload_n (pc' := 157) rfl rfl ?_
    refine jw_iload_n (pc' := 158) rfl rfl ?_
    refine jw_putI' (pc' := 161) (F := 177) rfl rfl rfl (Or.inr rfl) (Or.inl rfl) rfl (rfl) (rfl) rfl g_3 (fun h_12 e_13 => ?_)
    replace w := w h_12 e_13
    refine jw_iinc (pc' := 164) (y := x3 + (1 : Int32)) (ls' := [some (vR 41 r0), some (vR 47 r1), some (vI x2), some (vI (x3 + (1 : Int32)))]) rfl (by decide) rfl rfl rfl ?_
    refine jw_goto (pc' := 122) rfl rfl ?_
    exact hK122 _ _ _ _ _ w
def L_X8_out_122 (D : JD) (d : Nat) (Q : JO → JH → Prop) : Nat → Nat → Nat → Int32 → Int32 → JH → Prop
  | 0 => fun _ _ _ _ _ => False
  | n + 1 => fun r0 r1 x2 x3 h => W_X8_out_122 D d Q (L_X8_out_122 D d Q n) r0 r1 x2 x3 h
theorem l_X8_out_122 {D : JD} {d : Nat} {Q : JO → JH → Prop} : ∀ (n : Nat) (r0 : Nat) (r1 : Nat) (x2 : Int32) (x3 : Int32) (h : JH), L_X8_out_122 D d Q n r0 r1 x2 x3 h → JW D (d + 1) mX8_out 122 [some (vR 41 r0), some (vR 47 r1), some (vI x2), some (vI x3)] [] h Q := by
  intro n
  induction n with
  | zero => intro _ _ _ _ _ w; exact w.elim
  | succ n ih => intro _ _ _ _ h w; exact w_X8_out_122 ih w
def W_X8_out_115 (D : JD) (d : Nat) (Q : JO → JH → Prop) (r0 : Nat) (r1 : Nat) (h : JH) : Prop :=
  r0 ≠ 0 ∧ (∃ n, L_X8_out_122 D d Q n r0 r1 (jfi h 177 r0) (0 : Int32) h)
theorem w_X8_out_115 {D : JD} {d : Nat} {Q : JO → JH → Prop} {r0 : Nat} {r1 : Nat} {h : JH} (w : W_X8_out_115 D d Q r0 r1 h) : JW D (d + 1) mX8_out 115 [some (vR 41 r0), some (vR 47 r1), none, none] [] h Q := by
  unfold W_X8_out_115 at w
  refine jw_aload_n (pc' := 116) rfl rfl ?_
  obtain ⟨g_1, w⟩ := w
  refine jw_getI (pc' := 119) (F := 177) rfl rfl rfl rfl g_1 ?_
  refine jw_istore_n (pc' := 120) (ls' := [some (vR 41 r0), some (vR 47 r1), some (vI (jfi h 177 r0)), none]) rfl (by decide) rfl ?_
  refine jw_iconst (pc' := 121) (x := (0 : Int32)) rfl rfl ?_
  refine jw_istore_n (pc' := 122) (ls' := [some (vR 41 r0), some (vR 47 r1), some (vI (jfi h 177 r0)), some (vI (0 : Int32))]) rfl (by decide) rfl ?_
  obtain ⟨n, w⟩ := w
  exact l_X8_out_122 n _ _ _ _ _ w
def W_X8_out_87 (D : JD) (d : Nat) (Q : JO → JH → Prop) (K87 : Nat → Nat → Nat → Int32 → JH → Prop) (r0 : Nat) (r1 : Nat) (r2 : Nat) (x3 : Int32) (h : JH) : Prop :=
  r0 ≠ 0 ∧ (((jfi h 215 r0) ≤ x3 → ∀ h_3 : JH, h_3 = wfr h 214 r0 r2 → (W_X8_out_115 D d Q r0 r1 h_3)) ∧ (¬ (jfi h 215 r0) ≤ x3 → (jfr h 214 r0) ≠ 0 ∧ jin x3 (jln h (jfr h 214 r0)) ∧ (r2 ≠ 0 ∧ jin x3 (jln h r2) ∧ ∀ h_9 : JH, h_9 = wai h r2 (ixn x3) (jai h (jfr h 214 r0) (ixn x3)) → (K87 r0 r1 r2 (x3 + (1 : Int32)) h_9))))
theorem w_X8_out_87 {D : JD} {d : Nat} {Q : JO → JH → Prop} {K87 : Nat → Nat → Nat → Int32 → JH → Prop} {r0 : Nat} {r1 : Nat} {r2 : Nat} {x3 : Int32} {h : JH} (hK87 : ∀ (r0 : Nat) (r1 : Nat) (r2 : Nat) (x3 : Int32) (h : JH), K87 r0 r1 r2 x3 h → JW D (d + 1) mX8_out 87 [some (vR 41 r0), some (vR 47 r1), some (vR 173 r2), some (vI x3)] [] h Q) (w : W_X8_out_87 D d Q K87 r0 r1 r2 x3 h) : JW D (d + 1) mX8_out 87 [some (vR 41 r0), some (vR 47 r1), some (vR 173 r2), some (vI x3)] [] h Q := by
  unfold W_X8_out_87 at w
  refine jw_iload_n (pc' := 88) rfl rfl ?_
  refine jw_aload_n (pc' := 89) rfl rfl ?_
  obtain ⟨g_1, w⟩ := w
  refine jw_getI (pc' := 92) (F := 215) rfl rfl rfl rfl g_1 ?_
  refine jw_icmp_ge (tgt := 110) (pc' := 95) rfl rfl (fun c_2 => ?_) (fun c_2 => ?_)
  · replace w := w.1 c_2
    refine jw_aload_n (pc' := 111) rfl rfl ?_
    refine jw_aload_n (pc' := 112) rfl rfl ?_
    refine jw_putR' (pc' := 115) (F := 214) rfl rfl rfl (Or.inr rfl) (Or.inl rfl) rfl rfl rfl g_1 (fun h_3 e_4 => ?_)
    replace w := w h_3 e_4
    refine jw_gen (ls' := [some (vR 41 r0), some (vR 47 r1), none, none]) (st' := []) (And.intro (Or.inl rfl) (And.intro (Or.inl rfl) (trivial))) (trivial) ?_
    exact w_X8_out_115 w
  · replace w := w.2 c_2
    refine jw_aload_n (pc' := 96) rfl rfl ?_
    refine jw_iload_n (pc' := 97) rfl rfl ?_
    refine jw_aload_n (pc' := 98) rfl rfl ?_
    refine jw_getR (pc' := 101) (F := 214) (t' := 173) rfl rfl rfl rfl rfl g_1 ?_
    refine jw_iload_n (pc' := 102) rfl rfl ?_
    obtain ⟨g_5, w⟩ := w
    obtain ⟨g_6, w⟩ := w
    refine jw_iald (pc' := 103) rfl rfl rfl rfl g_5 g_6.ix g_6.2 ?_
    obtain ⟨g_7, w⟩ := w
    obtain ⟨g_8, w⟩ := w
    refine jw_iast' (pc' := 104) rfl rfl rfl rfl rfl g_7 g_8 (fun h_9 e_10 => ?_)
    replace w := w h_9 e_10
    refine jw_iinc (pc' := 107) (y := x3 + (1 : Int32)) (ls' := [some (vR 41 r0), some (vR 47 r1), some (vR 173 r2), some (vI (x3 + (1 : Int32)))]) rfl (by decide) rfl rfl rfl ?_
    refine jw_goto (pc' := 87) rfl rfl ?_
    exact hK87 _ _ _ _ _ w
def L_X8_out_87 (D : JD) (d : Nat) (Q : JO → JH → Prop) : Nat → Nat → Nat → Nat → Int32 → JH → Prop
  | 0 => fun _ _ _ _ _ => False
  | n + 1 => fun r0 r1 r2 x3 h => W_X8_out_87 D d Q (L_X8_out_87 D d Q n) r0 r1 r2 x3 h
theorem l_X8_out_87 {D : JD} {d : Nat} {Q : JO → JH → Prop} : ∀ (n : Nat) (r0 : Nat) (r1 : Nat) (r2 : Nat) (x3 : Int32) (h : JH), L_X8_out_87 D d Q n r0 r1 r2 x3 h → JW D (d + 1) mX8_out 87 [some (vR 41 r0), some (vR 47 r1), some (vR 173 r2), some (vI x3)] [] h Q := by
  intro n
  induction n with
  | zero => intro _ _ _ _ _ w; exact w.elim
  | succ n ih => intro _ _ _ _ h w; exact w_X8_out_87 ih w
def W_X8_out_32 (D : JD) (d : Nat) (Q : JO → JH → Prop) (K32 : Nat → Nat → JH → Prop) (r0 : Nat) (r1 : Nat) (h : JH) : Prop :=
  r0 ≠ 0 ∧ ((jfr h 213 r0) ≠ 0 ∧ (((((8 : Int32) * (jfi h 215 r0)) + (8 : Int32)) ≤ (nI (jln h (jfr h 213 r0))) → (jfr h 214 r0) ≠ 0 ∧ ((¬ (jfi h 215 r0) = (nI (jln h (jfr h 214 r0))) → W_X8_out_115 D d Q r0 r1 h) ∧ ((jfi h 215 r0) = (nI (jln h (jfr h 214 r0))) → jsm ((2 : Int32) * (jfi h 215 r0)) ∧ ∀ (r_6 : Nat) (h_7 : JH), r_6 = jsz h + 1 → h_7 = nwa h 173 (ixn ((2 : Int32) * (jfi h 215 r0))) → (∃ n, L_X8_out_87 D d Q n r0 r1 r_6 (0 : Int32) h_7)))) ∧ (¬ (((8 : Int32) * (jfi h 215 r0)) + (8 : Int32)) ≤ (nI (jln h (jfr h 213 r0))) → cX8_wider D d (jfr h 213 r0) h (pR D h 172 (fun v_13 h_11 => ∀ h_14 : JH, h_14 = wfr h_11 213 r0 v_13 → (K32 r0 r1 h_14)) (jth Q)))))
theorem w_X8_out_32 {D : JD} {d : Nat} {Q : JO → JH → Prop} {K32 : Nat → Nat → JH → Prop} {r0 : Nat} {r1 : Nat} {h : JH} (hK32 : ∀ (r0 : Nat) (r1 : Nat) (h : JH), K32 r0 r1 h → JW D (d + 1) mX8_out 32 [some (vR 41 r0), some (vR 47 r1), none, none] [] h Q) (w : W_X8_out_32 D d Q K32 r0 r1 h) : JW D (d + 1) mX8_out 32 [some (vR 41 r0), some (vR 47 r1), none, none] [] h Q := by
  unfold W_X8_out_32 at w
  refine jw_bipush (pc' := 34) (x := (8 : Int32)) rfl rfl ?_
  refine jw_aload_n (pc' := 35) rfl rfl ?_
  obtain ⟨g_1, w⟩ := w
  refine jw_getI (pc' := 38) (F := 215) rfl rfl rfl rfl g_1 ?_
  refine jw_imul (pc' := 39) rfl ?_
  refine jw_bipush (pc' := 41) (x := (8 : Int32)) rfl rfl ?_
  refine jw_iadd (pc' := 42) rfl ?_
  refine jw_aload_n (pc' := 43) rfl rfl ?_
  refine jw_getR (pc' := 46) (F := 213) (t' := 172) rfl rfl rfl rfl rfl g_1 ?_
  obtain ⟨g_2, w⟩ := w
  refine jw_alen (pc' := 47) rfl rfl g_2 ?_
  refine jw_icmp_le (tgt := 64) (pc' := 50) rfl rfl (fun c_3 => ?_) (fun c_3 => ?_)
  · replace w := w.1 c_3
    refine jw_aload_n (pc' := 65) rfl rfl ?_
    refine jw_getI (pc' := 68) (F := 215) rfl rfl rfl rfl g_1 ?_
    refine jw_aload_n (pc' := 69) rfl rfl ?_
    refine jw_getR (pc' := 72) (F := 214) (t' := 173) rfl rfl rfl rfl rfl g_1 ?_
    obtain ⟨g_4, w⟩ := w
    refine jw_alen (pc' := 73) rfl rfl g_4 ?_
    refine jw_icmp_ne (tgt := 115) (pc' := 76) rfl rfl (fun c_5 => ?_) (fun c_5 => ?_)
    · replace w := w.1 c_5
      exact w_X8_out_115 w
    · replace w := w.2 c_5
      refine jw_iconst (pc' := 77) (x := (2 : Int32)) rfl rfl ?_
      refine jw_aload_n (pc' := 78) rfl rfl ?_
      refine jw_getI (pc' := 81) (F := 215) rfl rfl rfl rfl g_1 ?_
      refine jw_imul (pc' := 82) rfl ?_
      obtain ⟨g_10, w⟩ := w
      refine jw_newa' (pc' := 84) (n := ixn ((2 : Int32) * (jfi h 215 r0))) (k := 173) rfl rfl rfl rfl rfl rfl (lw_g (jtb_mem (c := 2) (i := 11) rfl) rfl) g_10.ix g_10.b4 (fun r_6 h_7 e_8 e_9 => ?_)
      replace w := w r_6 h_7 e_8 e_9
      refine jw_astore_n (pc' := 85) (ls' := [some (vR 41 r0), some (vR 47 r1), some (vR 173 r_6), none]) rfl (by decide) rfl ?_
      refine jw_iconst (pc' := 86) (x := (0 : Int32)) rfl rfl ?_
      refine jw_istore_n (pc' := 87) (ls' := [some (vR 41 r0), some (vR 47 r1), some (vR 173 r_6), some (vI (0 : Int32))]) rfl (by decide) rfl ?_
      obtain ⟨n, w⟩ := w
      exact l_X8_out_87 n _ _ _ _ _ w
  · replace w := w.2 c_3
    refine jw_aload_n (pc' := 51) rfl rfl ?_
    refine jw_aload_n (pc' := 52) rfl rfl ?_
    refine jw_getR (pc' := 55) (F := 213) (t' := 172) rfl rfl rfl rfl rfl g_1 ?_
    refine jw_cR (st := [vR 41 r0]) (sa := [vR 172 (jfr h 213 r0)]) okX8_wider rfl rfl rfl rfl rfl rfl (jstp_static (sa := [vR 172 (jfr h 213 r0)]) (st := [vR 41 r0]) rfl rfl sX8_wider okX8_wider rfl rfl) w (fun v_13 h_11 _ _ _ w => ?_)
    refine jw_putR' (pc' := 61) (F := 213) rfl rfl rfl (Or.inr rfl) (Or.inl rfl) rfl rfl rfl g_1 (fun h_14 e_15 => ?_)
    replace w := w h_14 e_15
    refine jw_goto (pc' := 32) rfl rfl ?_
    exact hK32 _ _ _ w
def L_X8_out_32 (D : JD) (d : Nat) (Q : JO → JH → Prop) : Nat → Nat → Nat → JH → Prop
  | 0 => fun _ _ _ => False
  | n + 1 => fun r0 r1 h => W_X8_out_32 D d Q (L_X8_out_32 D d Q n) r0 r1 h
theorem l_X8_out_32 {D : JD} {d : Nat} {Q : JO → JH → Prop} : ∀ (n : Nat) (r0 : Nat) (r1 : Nat) (h : JH), L_X8_out_32 D d Q n r0 r1 h → JW D (d + 1) mX8_out 32 [some (vR 41 r0), some (vR 47 r1), none, none] [] h Q := by
  intro n
  induction n with
  | zero => intro _ _ _ w; exact w.elim
  | succ n ih => intro _ _ h w; exact w_X8_out_32 ih w
def W_X8_out_0 (D : JD) (d : Nat) (Q : JO → JH → Prop) (K0 : Nat → Nat → JH → Prop) (r0 : Nat) (r1 : Nat) (h : JH) : Prop :=
  r0 ≠ 0 ∧ ((jfr h 212 r0) ≠ 0 ∧ (((((16 : Int32) * (jfi h 215 r0)) + (16 : Int32)) ≤ (nI (jln h (jfr h 212 r0))) → ∃ n, L_X8_out_32 D d Q n r0 r1 h) ∧ (¬ (((16 : Int32) * (jfi h 215 r0)) + (16 : Int32)) ≤ (nI (jln h (jfr h 212 r0))) → cX8_wider D d (jfr h 212 r0) h (pR D h 172 (fun v_6 h_4 => ∀ h_7 : JH, h_7 = wfr h_4 212 r0 v_6 → (K0 r0 r1 h_7)) (jth Q)))))
theorem w_X8_out_0 {D : JD} {d : Nat} {Q : JO → JH → Prop} {K0 : Nat → Nat → JH → Prop} {r0 : Nat} {r1 : Nat} {h : JH} (hK0 : ∀ (r0 : Nat) (r1 : Nat) (h : JH), K0 r0 r1 h → JW D (d + 1) mX8_out 0 [some (vR 41 r0), some (vR 47 r1), none, none] [] h Q) (w : W_X8_out_0 D d Q K0 r0 r1 h) : JW D (d + 1) mX8_out 0 [some (vR 41 r0), some (vR 47 r1), none, none] [] h Q := by
  unfold W_X8_out_0 at w
  refine jw_bipush (pc' := 2) (x := (16 : Int32)) rfl rfl ?_
  refine jw_aload_n (pc' := 3) rfl rfl ?_
  obtain ⟨g_1, w⟩ := w
  refine jw_getI (pc' := 6) (F := 215) rfl rfl rfl rfl g_1 ?_
  refine jw_imul (pc' := 7) rfl ?_
  refine jw_bipush (pc' := 9) (x := (16 : Int32)) rfl rfl ?_
  refine jw_iadd (pc' := 10) rfl ?_
  refine jw_aload_n (pc' := 11) rfl rfl ?_
  refine jw_getR (pc' := 14) (F := 212) (t' := 172) rfl rfl rfl rfl rfl g_1 ?_
  obtain ⟨g_2, w⟩ := w
  refine jw_alen (pc' := 15) rfl rfl g_2 ?_
  refine jw_icmp_le (tgt := 32) (pc' := 18) rfl rfl (fun c_3 => ?_) (fun c_3 => ?_)
  · replace w := w.1 c_3
    obtain ⟨n, w⟩ := w
    exact l_X8_out_32 n _ _ _ w
  · replace w := w.2 c_3
    refine jw_aload_n (pc' := 19) rfl rfl ?_
    refine jw_aload_n (pc' := 20) rfl rfl ?_
    refine jw_getR (pc' := 23) (F := 212) (t' := 172) rfl rfl rfl rfl rfl g_1 ?_
    refine jw_cR (st := [vR 41 r0]) (sa := [vR 172 (jfr h 212 r0)]) okX8_wider rfl rfl rfl rfl rfl rfl (jstp_static (sa := [vR 172 (jfr h 212 r0)]) (st := [vR 41 r0]) rfl rfl sX8_wider okX8_wider rfl rfl) w (fun v_6 h_4 _ _ _ w => ?_)
    refine jw_putR' (pc' := 29) (F := 212) rfl rfl rfl (Or.inr rfl) (Or.inl rfl) rfl rfl rfl g_1 (fun h_7 e_8 => ?_)
    replace w := w h_7 e_8
    refine jw_goto (pc' := 0) rfl rfl ?_
    exact hK0 _ _ _ w
def L_X8_out_0 (D : JD) (d : Nat) (Q : JO → JH → Prop) : Nat → Nat → Nat → JH → Prop
  | 0 => fun _ _ _ => False
  | n + 1 => fun r0 r1 h => W_X8_out_0 D d Q (L_X8_out_0 D d Q n) r0 r1 h
theorem l_X8_out_0 {D : JD} {d : Nat} {Q : JO → JH → Prop} : ∀ (n : Nat) (r0 : Nat) (r1 : Nat) (h : JH), L_X8_out_0 D d Q n r0 r1 h → JW D (d + 1) mX8_out 0 [some (vR 41 r0), some (vR 47 r1), none, none] [] h Q := by
  intro n
  induction n with
  | zero => intro _ _ _ w; exact w.elim
  | succ n ih => intro _ _ h w; exact w_X8_out_0 ih w
def T_X8_out (D : JD) (d : Nat) (Q : JO → JH → Prop) (r0 : Nat) (r1 : Nat) (h : JH) : Prop := ∃ n, L_X8_out_0 D d Q n r0 r1 h
theorem t_X8_out {D : JD} {d : Nat} {Q : JO → JH → Prop} {r0 : Nat} {r1 : Nat} {h : JH} (w : T_X8_out D d Q r0 r1 h) : cX8_out D (d + 1) r0 r1 h Q := by
  unfold T_X8_out at w
  unfold cX8_out
  obtain ⟨n, w⟩ := w
  exact l_X8_out_0 n _ _ _ w
def W_X8_wider_10 (D : JD) (d : Nat) (Q : JO → JH → Prop) (K10 : Nat → Nat → Int32 → JH → Prop) (r0 : Nat) (r1 : Nat) (x2 : Int32) (h : JH) : Prop :=
  r0 ≠ 0 ∧ (((nI (jln h r0)) ≤ x2 → Q (.inl (some (vR 172 r1))) h) ∧ (¬ (nI (jln h r0)) ≤ x2 → jin x2 (jln h r0) ∧ (r1 ≠ 0 ∧ jin x2 (jln h r1) ∧ ∀ h_6 : JH, h_6 = war h r1 (ixn x2) (jar h r0 (ixn x2)) → (K10 r0 r1 (x2 + (1 : Int32)) h_6))))
theorem w_X8_wider_10 {D : JD} {d : Nat} {Q : JO → JH → Prop} {K10 : Nat → Nat → Int32 → JH → Prop} {r0 : Nat} {r1 : Nat} {x2 : Int32} {h : JH} (hK10 : ∀ (r0 : Nat) (r1 : Nat) (x2 : Int32) (h : JH), K10 r0 r1 x2 h → JW D (d + 1) mX8_wider 10 [some (vR 86 r0), some (vR 172 r1), some (vI x2)] [] h Q) (w : W_X8_wider_10 D d Q K10 r0 r1 x2 h) : JW D (d + 1) mX8_wider 10 [some (vR 86 r0), some (vR 172 r1), some (vI x2)] [] h Q := by
  unfold W_X8_wider_10 at w
  refine jw_iload_n (pc' := 11) rfl rfl ?_
  refine jw_aload_n (pc' := 12) rfl rfl ?_
  obtain ⟨g_1, w⟩ := w
  refine jw_alen (pc' := 13) rfl rfl g_1 ?_
  refine jw_icmp_ge (tgt := 28) (pc' := 16) rfl rfl (fun c_2 => ?_) (fun c_2 => ?_)
  · replace w := w.1 c_2
    refine jw_aload_n (pc' := 29) rfl rfl ?_
    exact jw_areturn rfl rfl rfl rfl rfl w
  · replace w := w.2 c_2
    refine jw_aload_n (pc' := 17) rfl rfl ?_
    refine jw_iload_n (pc' := 18) rfl rfl ?_
    refine jw_aload_n (pc' := 19) rfl rfl ?_
    refine jw_iload_n (pc' := 20) rfl rfl ?_
    obtain ⟨g_3, w⟩ := w
    refine jw_aald (pc' := 21) (t' := 46) rfl rfl rfl rfl g_1 g_3.ix g_3.2 ?_
    obtain ⟨g_4, w⟩ := w
    obtain ⟨g_5, w⟩ := w
    refine jw_aast' (pc' := 22) rfl rfl rfl rfl rfl rfl g_4 g_5 (fun h_6 e_7 => ?_)
    replace w := w h_6 e_7
    refine jw_iinc (pc' := 25) (y := x2 + (1 : Int32)) (ls' := [some (vR 86 r0), some (vR 172 r1), some (vI (x2 + (1 : Int32)))]) rfl (by decide) rfl rfl rfl ?_
    refine jw_goto (pc' := 10) rfl rfl ?_
    exact hK10 _ _ _ _ w
def L_X8_wider_10 (D : JD) (d : Nat) (Q : JO → JH → Prop) : Nat → Nat → Nat → Int32 → JH → Prop
  | 0 => fun _ _ _ _ => False
  | n + 1 => fun r0 r1 x2 h => W_X8_wider_10 D d Q (L_X8_wider_10 D d Q n) r0 r1 x2 h
theorem l_X8_wider_10 {D : JD} {d : Nat} {Q : JO → JH → Prop} : ∀ (n : Nat) (r0 : Nat) (r1 : Nat) (x2 : Int32) (h : JH), L_X8_wider_10 D d Q n r0 r1 x2 h → JW D (d + 1) mX8_wider 10 [some (vR 86 r0), some (vR 172 r1), some (vI x2)] [] h Q := by
  intro n
  induction n with
  | zero => intro _ _ _ _ w; exact w.elim
  | succ n ih => intro _ _ _ h w; exact w_X8_wider_10 ih w
def W_X8_wider_0 (D : JD) (d : Nat) (Q : JO → JH → Prop) (r0 : Nat) (h : JH) : Prop :=
  r0 ≠ 0 ∧ (jsm ((2 : Int32) * (nI (jln h r0))) ∧ ∀ (r_2 : Nat) (h_3 : JH), r_2 = jsz h + 1 → h_3 = nwa h 172 (ixn ((2 : Int32) * (nI (jln h r0)))) → (∃ n, L_X8_wider_10 D d Q n r0 r_2 (0 : Int32) h_3))
theorem w_X8_wider_0 {D : JD} {d : Nat} {Q : JO → JH → Prop} {r0 : Nat} {h : JH} (w : W_X8_wider_0 D d Q r0 h) : JW D (d + 1) mX8_wider 0 [some (vR 86 r0), none, none] [] h Q := by
  unfold W_X8_wider_0 at w
  refine jw_iconst (pc' := 1) (x := (2 : Int32)) rfl rfl ?_
  refine jw_aload_n (pc' := 2) rfl rfl ?_
  obtain ⟨g_1, w⟩ := w
  refine jw_alen (pc' := 3) rfl rfl g_1 ?_
  refine jw_imul (pc' := 4) rfl ?_
  obtain ⟨g_6, w⟩ := w
  refine jw_anew' (pc' := 7) (n := ixn ((2 : Int32) * (nI (jln h r0)))) (k := 172) rfl rfl rfl rfl rfl rfl rfl (jtb_mem (c := 15) (i := 100) rfl) g_6.ix g_6.b (fun r_2 h_3 e_4 e_5 => ?_)
  replace w := w r_2 h_3 e_4 e_5
  refine jw_astore_n (pc' := 8) (ls' := [some (vR 86 r0), some (vR 172 r_2), none]) rfl (by decide) rfl ?_
  refine jw_iconst (pc' := 9) (x := (0 : Int32)) rfl rfl ?_
  refine jw_istore_n (pc' := 10) (ls' := [some (vR 86 r0), some (vR 172 r_2), some (vI (0 : Int32))]) rfl (by decide) rfl ?_
  obtain ⟨n, w⟩ := w
  exact l_X8_wider_10 n _ _ _ _ w
def T_X8_wider (D : JD) (d : Nat) (Q : JO → JH → Prop) (r0 : Nat) (h : JH) : Prop := W_X8_wider_0 D d Q r0 h
theorem t_X8_wider {D : JD} {d : Nat} {Q : JO → JH → Prop} {r0 : Nat} {h : JH} (w : T_X8_wider D d Q r0 h) : cX8_wider D (d + 1) r0 h Q := by
  unfold T_X8_wider at w
  unfold cX8_wider
  exact w_X8_wider_0 w
def W_X8_keep_16 (D : JD) (d : Nat) (Q : JO → JH → Prop) (r0 : Nat) (x1 : Int32) (r2 : Nat) (h : JH) : Prop :=
  r0 ≠ 0 ∧ jin x1 (jln h r0) ∧ ((jar h r0 (ixn x1)) ≠ 0 ∧ (cX13_take D d (jar h r0 (ixn x1)) r2 h (pV D h (fun h_4 => Q (.inl none) h_4) (jth Q))))
theorem w_X8_keep_16 {D : JD} {d : Nat} {Q : JO → JH → Prop} {r0 : Nat} {x1 : Int32} {r2 : Nat} {h : JH} (w : W_X8_keep_16 D d Q r0 x1 r2 h) : JW D (d + 1) mX8_keep 16 [some (vR 86 r0), some (vI x1), some (vR 46 r2)] [] h Q := by
  unfold W_X8_keep_16 at w
  refine jw_aload_n (pc' := 17) rfl rfl ?_
  refine jw_iload_n (pc' := 18) rfl rfl ?_
  obtain ⟨g_1, w⟩ := w
  obtain ⟨g_2, w⟩ := w
  refine jw_aald (pc' := 19) (t' := 46) rfl rfl rfl rfl g_1 g_2.ix g_2.2 ?_
  refine jw_aload_n (pc' := 20) rfl rfl ?_
  obtain ⟨g_3, w⟩ := w
  refine jw_cV (st := []) (sa := [vR 46 (jar h r0 (ixn x1)), vR 46 r2]) okX13_take rfl rfl rfl rfl rfl rfl (jstp_virtual (sa := [vR 46 r2]) (st := []) (k := 0) rfl rfl sX13_take okX13_take g_3 (one46.k g_3) rfl rfl) w (fun h_4 _ _ w => ?_)
  exact jw_return rfl rfl w
def W_X8_keep_0 (D : JD) (d : Nat) (Q : JO → JH → Prop) (r0 : Nat) (x1 : Int32) (r2 : Nat) (h : JH) : Prop :=
  r0 ≠ 0 ∧ jin x1 (jln h r0) ∧ (((jar h r0 (ixn x1)) ≠ 0 → W_X8_keep_16 D d Q r0 x1 r2 h) ∧ ((jar h r0 (ixn x1)) = 0 → ∀ (r_4 : Nat) (h_5 : JH), r_4 = jsz h + 1 → h_5 = nwo h 107 4 → (cX13_init D d r_4 h_5 (pV D h_5 (fun h_8 => jin x1 (jln h_8 r0) ∧ ∀ h_12 : JH, h_12 = war h_8 r0 (ixn x1) r_4 → (W_X8_keep_16 D d Q r0 x1 r2 h_12)) (jth Q)))))
theorem w_X8_keep_0 {D : JD} {d : Nat} {Q : JO → JH → Prop} {r0 : Nat} {x1 : Int32} {r2 : Nat} {h : JH} (w : W_X8_keep_0 D d Q r0 x1 r2 h) : JW D (d + 1) mX8_keep 0 [some (vR 86 r0), some (vI x1), some (vR 46 r2)] [] h Q := by
  unfold W_X8_keep_0 at w
  refine jw_aload_n (pc' := 1) rfl rfl ?_
  refine jw_iload_n (pc' := 2) rfl rfl ?_
  obtain ⟨g_1, w⟩ := w
  obtain ⟨g_2, w⟩ := w
  refine jw_aald (pc' := 3) (t' := 46) rfl rfl rfl rfl g_1 g_2.ix g_2.2 ?_
  refine jw_ifnonnull (tgt := 16) (pc' := 6) rfl rfl (fun c_3 => ?_) (fun c_3 => ?_)
  · replace w := w.1 c_3
    exact w_X8_keep_16 w
  · replace w := w.2 c_3
    refine jw_aload_n (pc' := 7) rfl rfl ?_
    refine jw_iload_n (pc' := 8) rfl rfl ?_
    refine jw_new' (pc' := 11) (k := 107) (n := 4) rfl rfl rfl rfl rfl rfl rfl (fun r_4 h_5 e_6 e_7 => ?_)
    replace w := w r_4 h_5 e_6 e_7
    refine jw_dup (pc' := 12) rfl rfl ?_
    refine jw_cV (st := [vR 107 r_4, vI x1, vR 86 r0]) (sa := [vR 107 r_4]) okX13_init rfl rfl rfl rfl rfl rfl (jstp_init (sa := []) (st := [vR 107 r_4, vI x1, vR 86 r0]) rfl rfl sX13_init okX13_init (lw_g (jtb_mem (c := 15) (i := 221) rfl) rfl) (jnz e_6) rfl rfl) w (fun h_8 _ _ w => ?_)
    obtain ⟨g_11, w⟩ := w
    refine jw_aast' (pc' := 16) rfl rfl rfl rfl rfl rfl g_1 g_11 (fun h_12 e_13 => ?_)
    replace w := w h_12 e_13
    exact w_X8_keep_16 w
def T_X8_keep (D : JD) (d : Nat) (Q : JO → JH → Prop) (r0 : Nat) (x1 : Int32) (r2 : Nat) (h : JH) : Prop := W_X8_keep_0 D d Q r0 x1 r2 h
theorem t_X8_keep {D : JD} {d : Nat} {Q : JO → JH → Prop} {r0 : Nat} {x1 : Int32} {r2 : Nat} {h : JH} (w : T_X8_keep D d Q r0 x1 r2 h) : cX8_keep D (d + 1) r0 x1 r2 h Q := by
  unfold T_X8_keep at w
  unfold cX8_keep
  exact w_X8_keep_0 w
def W_X8_finish_435 (D : JD) (d : Nat) (Q : JO → JH → Prop) (K425 : Nat → Nat → Nat → Int32 → Int32 → Int32 → JH → Prop) (K435 : Nat → Nat → Nat → Int32 → Int32 → Int32 → Int32 → JH → Prop) (r0 : Nat) (r1 : Nat) (r2 : Nat) (x4 : Int32) (x5 : Int32) (x7 : Int32) (x8 : Int32) (h : JH) : Prop :=
  r1 ≠ 0 ∧ (((jfi h 302 r1) ≤ x8 → K425 r0 r1 r2 x4 x5 (x7 + (1 : Int32)) h) ∧ (¬ (jfi h 302 r1) ≤ x8 → r0 ≠ 0 ∧ ((jfr h 214 r0) ≠ 0 ∧ jin (x4 + x7) (jln h (jfr h 214 r0)) ∧ ((jfr h 212 r0) ≠ 0 ∧ jin (((16 : Int32) * (jai h (jfr h 214 r0) (ixn (x4 + x7)))) + x8) (jln h (jfr h 212 r0)) ∧ (r2 ≠ 0 ∧ (cX12_put D d r2 ((x7 * (jfi h 302 r1)) + x8) (jar h (jfr h 212 r0) (ixn (((16 : Int32) * (jai h (jfr h 214 r0) (ixn (x4 + x7)))) + x8))) h (pV D h (fun h_9 => K435 r0 r1 r2 x4 x5 x7 (x8 + (1 : Int32)) h_9) (jth Q))))))))
theorem w_X8_finish_435 {D : JD} {d : Nat} {Q : JO → JH → Prop} {K425 : Nat → Nat → Nat → Int32 → Int32 → Int32 → JH → Prop} {K435 : Nat → Nat → Nat → Int32 → Int32 → Int32 → Int32 → JH → Prop} {r0 : Nat} {r1 : Nat} {r2 : Nat} {x4 : Int32} {x5 : Int32} {x7 : Int32} {x8 : Int32} {h : JH} (hK425 : ∀ (r0 : Nat) (r1 : Nat) (r2 : Nat) (x4 : Int32) (x5 : Int32) (x7 : Int32) (h : JH), K425 r0 r1 r2 x4 x5 x7 h → JW D (d + 1) mX8_finish 425 [some (vR 41 r0), some (vR 47 r1), some (vR 45 r2), none, some (vI x4), some (vI x5), none, some (vI x7), none] [] h Q) (hK435 : ∀ (r0 : Nat) (r1 : Nat) (r2 : Nat) (x4 : Int32) (x5 : Int32) (x7 : Int32) (x8 : Int32) (h : JH), K435 r0 r1 r2 x4 x5 x7 x8 h → JW D (d + 1) mX8_finish 435 [some (vR 41 r0), some (vR 47 r1), some (vR 45 r2), none, some (vI x4), some (vI x5), none, some (vI x7), some (vI x8)] [] h Q) (w : W_X8_finish_435 D d Q K425 K435 r0 r1 r2 x4 x5 x7 x8 h) : JW D (d + 1) mX8_finish 435 [some (vR 41 r0), some (vR 47 r1), some (vR 45 r2), none, some (vI x4), some (vI x5), none, some (vI x7), some (vI x8)] [] h Q := by
  unfold W_X8_finish_435 at w
  refine jw_iload (pc' := 437) rfl rfl ?_
  refine jw_aload_n (pc' := 438) rfl rfl ?_
  obtain ⟨g_1, w⟩ := w
  refine jw_getI (pc' := 441) (F := 302) rfl rfl rfl rfl g_1 ?_
  refine jw_icmp_ge (tgt := 485) (pc' := 444) rfl rfl (fun c_2 => ?_) (fun c_2 => ?_)
  · replace w := w.1 c_2
    refine jw_iinc (pc' := 488) (y := x7 + (1 : Int32)) (ls' := [some (vR 41 r0), some (vR 47 r1), some (vR 45 r2), none, some (vI x4), some (vI x5), none, some (vI (x7 + (1 : Int32))), some (vI x8)]) rfl (by decide) rfl rfl rfl ?_
    refine jw_goto (pc' := 425) rfl rfl ?_
    refine jw_gen (ls' := [some (vR 41 r0), some (vR 47 r1), some (vR 45 r2), none, some (vI x4), some (vI x5), none, some (vI (x7 + (1 : Int32))), none]) (st' := []) (And.intro (Or.inl rfl) (And.intro (Or.inl rfl) (And.intro (Or.inl rfl) (And.intro (Or.inl rfl) (And.intro (Or.inl rfl) (And.intro (Or.inl rfl) (trivial))))))) (trivial) ?_
    exact hK425 _ _ _ _ _ _ _ w
  · replace w := w.2 c_2
    refine jw_aload_n (pc' := 445) rfl rfl ?_
    refine jw_iload (pc' := 447) rfl rfl ?_
    refine jw_aload_n (pc' := 448) rfl rfl ?_
    refine jw_getI (pc' := 451) (F := 302) rfl rfl rfl rfl g_1 ?_
    refine jw_imul (pc' := 452) rfl ?_
    refine jw_iload (pc' := 454) rfl rfl ?_
    refine jw_iadd (pc' := 455) rfl ?_
    refine jw_aload_n (pc' := 456) rfl rfl ?_
    obtain ⟨g_3, w⟩ := w
    refine jw_getR (pc' := 459) (F := 212) (t' := 172) rfl rfl rfl rfl rfl g_3 ?_
    refine jw_bipush (pc' := 461) (x := (16 : Int32)) rfl rfl ?_
    refine jw_aload_n (pc' := 462) rfl rfl ?_
    refine jw_getR (pc' := 465) (F := 214) (t' := 173) rfl rfl rfl rfl rfl g_3 ?_
    refine jw_iload (pc' := 467) rfl rfl ?_
    refine jw_iload (pc' := 469) rfl rfl ?_
    refine jw_iadd (pc' := 470) rfl ?_
    obtain ⟨g_4, w⟩ := w
    obtain ⟨g_5, w⟩ := w
    refine jw_iald (pc' := 471) rfl rfl rfl rfl g_4 g_5.ix g_5.2 ?_
    refine jw_imul (pc' := 472) rfl ?_
    refine jw_iload (pc' := 474) rfl rfl ?_
    refine jw_iadd (pc' := 475) rfl ?_
    obtain ⟨g_6, w⟩ := w
    obtain ⟨g_7, w⟩ := w
    refine jw_aald (pc' := 476) (t' := 46) rfl rfl rfl rfl g_6 g_7.ix g_7.2 ?_
    obtain ⟨g_8, w⟩ := w
    refine jw_cV (st := []) (sa := [vR 45 r2, vI ((x7 * (jfi h 302 r1)) + x8), vR 46 (jar h (jfr h 212 r0) (ixn (((16 : Int32) * (jai h (jfr h 214 r0) (ixn (x4 + x7)))) + x8)))]) okX12_put rfl rfl rfl rfl rfl rfl (jstp_virtual (sa := [vI ((x7 * (jfi h 302 r1)) + x8), vR 46 (jar h (jfr h 212 r0) (ixn (((16 : Int32) * (jai h (jfr h 214 r0) (ixn (x4 + x7)))) + x8)))]) (st := []) (k := 0) rfl rfl sX12_put okX12_put g_8 (one45.k g_8) rfl rfl) w (fun h_9 _ _ w => ?_)
    refine jw_iinc (pc' := 482) (y := x8 + (1 : Int32)) (ls' := [some (vR 41 r0), some (vR 47 r1), some (vR 45 r2), none, some (vI x4), some (vI x5), none, some (vI x7), some (vI (x8 + (1 : Int32)))]) rfl (by decide) rfl rfl rfl ?_
    refine jw_goto (pc' := 435) rfl rfl ?_
    exact hK435 _ _ _ _ _ _ _ _ w
def L_X8_finish_435 (D : JD) (d : Nat) (Q : JO → JH → Prop) (K425 : Nat → Nat → Nat → Int32 → Int32 → Int32 → JH → Prop) : Nat → Nat → Nat → Nat → Int32 → Int32 → Int32 → Int32 → JH → Prop
  | 0 => fun _ _ _ _ _ _ _ _ => False
  | n + 1 => fun r0 r1 r2 x4 x5 x7 x8 h => W_X8_finish_435 D d Q K425 (L_X8_finish_435 D d Q K425 n) r0 r1 r2 x4 x5 x7 x8 h
theorem l_X8_finish_435 {D : JD} {d : Nat} {Q : JO → JH → Prop} {K425 : Nat → Nat → Nat → Int32 → Int32 → Int32 → JH → Prop} (hK425 : ∀ (r0 : Nat) (r1 : Nat) (r2 : Nat) (x4 : Int32) (x5 : Int32) (x7 : Int32) (h : JH), K425 r0 r1 r2 x4 x5 x7 h → JW D (d + 1) mX8_finish 425 [some (vR 41 r0), some (vR 47 r1), some (vR 45 r2), none, some (vI x4), some (vI x5), none, some (vI x7), none] [] h Q) : ∀ (n : Nat) (r0 : Nat) (r1 : Nat) (r2 : Nat) (x4 : Int32) (x5 : Int32) (x7 : Int32) (x8 : Int32) (h : JH), L_X8_finish_435 D d Q K425 n r0 r1 r2 x4 x5 x7 x8 h → JW D (d + 1) mX8_finish 435 [some (vR 41 r0), some (vR 47 r1), some (vR 45 r2), none, some (vI x4), some (vI x5), none, some (vI x7), some (vI x8)] [] h Q := by
  intro n
  induction n with
  | zero => intro _ _ _ _ _ _ _ _ w; exact w.elim
  | succ n ih => intro _ _ _ _ _ _ _ h w; exact w_X8_finish_435 hK425 ih w
def W_X8_finish_425 (D : JD) (d : Nat) (Q : JO → JH → Prop) (K425 : Nat → Nat → Nat → Int32 → Int32 → Int32 → JH → Prop) (r0 : Nat) (r1 : Nat) (r2 : Nat) (x4 : Int32) (x5 : Int32) (x7 : Int32) (h : JH) : Prop :=
  (x5 ≤ x7 → Q (.inl none) h) ∧ (¬ x5 ≤ x7 → ∃ n, L_X8_finish_435 D d Q K425 n r0 r1 r2 x4 x5 x7 (0 : Int32) h)
theorem w_X8_finish_425 {D : JD} {d : Nat} {Q : JO → JH → Prop} {K425 : Nat → Nat → Nat → Int32 → Int32 → Int32 → JH → Prop} {r0 : Nat} {r1 : Nat} {r2 : Nat} {x4 : Int32} {x5 : Int32} {x7 : Int32} {h : JH} (hK425 : ∀ (r0 : Nat) (r1 : Nat) (r2 : Nat) (x4 : Int32) (x5 : Int32) (x7 : Int32) (h : JH), K425 r0 r1 r2 x4 x5 x7 h → JW D (d + 1) mX8_finish 425 [some (vR 41 r0), some (vR 47 r1), some (vR 45 r2), none, some (vI x4), some (vI x5), none, some (vI x7), none] [] h Q) (w : W_X8_finish_425 D d Q K425 r0 r1 r2 x4 x5 x7 h) : JW D (d + 1) mX8_finish 425 [some (vR 41 r0), some (vR 47 r1), some (vR 45 r2), none, some (vI x4), some (vI x5), none, some (vI x7), none] [] h Q := by
  unfold W_X8_finish_425 at w
  refine jw_iload (pc' := 427) rfl rfl ?_
  refine jw_iload (pc' := 429) rfl rfl ?_
  refine jw_icmp_ge (tgt := 491) (pc' := 432) rfl rfl (fun c_1 => ?_) (fun c_1 => ?_)
  · replace w := w.1 c_1
    exact jw_return rfl rfl w
  · replace w := w.2 c_1
    refine jw_iconst (pc' := 433) (x := (0 : Int32)) rfl rfl ?_
    refine jw_istore (pc' := 435) (ls' := [some (vR 41 r0), some (vR 47 r1), some (vR 45 r2), none, some (vI x4), some (vI x5), none, some (vI x7), some (vI (0 : Int32))]) rfl (by decide) rfl ?_
    obtain ⟨n, w⟩ := w
    exact l_X8_finish_435 hK425 n _ _ _ _ _ _ _ _ w
def L_X8_finish_425 (D : JD) (d : Nat) (Q : JO → JH → Prop) : Nat → Nat → Nat → Nat → Int32 → Int32 → Int32 → JH → Prop
  | 0 => fun _ _ _ _ _ _ _ => False
  | n + 1 => fun r0 r1 r2 x4 x5 x7 h => W_X8_finish_425 D d Q (L_X8_finish_425 D d Q n) r0 r1 r2 x4 x5 x7 h
theorem l_X8_finish_425 {D : JD} {d : Nat} {Q : JO → JH → Prop} : ∀ (n : Nat) (r0 : Nat) (r1 : Nat) (r2 : Nat) (x4 : Int32) (x5 : Int32) (x7 : Int32) (h : JH), L_X8_finish_425 D d Q n r0 r1 r2 x4 x5 x7 h → JW D (d + 1) mX8_finish 425 [some (vR 41 r0), some (vR 47 r1), some (vR 45 r2), none, some (vI x4), some (vI x5), none, some (vI x7), none] [] h Q := by
  intro n
  induction n with
  | zero => intro _ _ _ _ _ _ _ w; exact w.elim
  | succ n ih => intro _ _ _ _ _ _ h w; exact w_X8_finish_425 ih w
def W_X8_finish_386 (D : JD) (d : Nat) (Q : JO → JH → Prop) (r0 : Nat) (r1 : Nat) (r2 : Nat) (x4 : Int32) (x5 : Int32) (x6 : Int32) (q0 : Nat) (s1 : Int32) (h : JH) : Prop :=
  q0 ≠ 0 ∧ (cX8_must D d q0 s1 (jcs D 302) h (pV D h (fun h_2 => r2 ≠ 0 ∧ (∀ h_6 : JH, h_6 = wfi h_2 259 r2 ((jfi h_2 259 r2) + x6) → (r1 ≠ 0 ∧ (∀ h_9 : JH, h_9 = wfi h_6 257 r2 (jfi h_6 302 r1) → (∀ h_11 : JH, h_11 = wfi h_9 258 r2 x5 → (∀ h_13 : JH, h_13 = wfi h_11 265 r2 (0 : Int32) → (∃ n, L_X8_finish_425 D d Q n r0 r1 r2 x4 x5 (0 : Int32) h_13))))))) (jth Q)))
theorem w_X8_finish_386 {D : JD} {d : Nat} {Q : JO → JH → Prop} {r0 : Nat} {r1 : Nat} {r2 : Nat} {x4 : Int32} {x5 : Int32} {x6 : Int32} {q0 : Nat} {s1 : Int32} {h : JH} (w : W_X8_finish_386 D d Q r0 r1 r2 x4 x5 x6 q0 s1 h) : JW D (d + 1) mX8_finish 386 [some (vR 41 r0), some (vR 47 r1), some (vR 45 r2), none, some (vI x4), some (vI x5), some (vI x6), none, none] [vI s1, vR 41 q0] h Q := by
  unfold W_X8_finish_386 at w
  refine jw_ldcwS (pc' := 389) rfl rfl rfl rfl ?_
  obtain ⟨g_1, w⟩ := w
  refine jw_cV (st := []) (sa := [vR 41 q0, vI s1, vR 51 (jcs D 302)]) okX8_must rfl rfl rfl rfl rfl rfl (jstp_virtual (sa := [vI s1, vR 51 (jcs D 302)]) (st := []) (k := 0) rfl rfl sX8_must okX8_must g_1 (one41.k g_1) rfl rfl) w (fun h_2 _ _ w => ?_)
  refine jw_aload_n (pc' := 393) rfl rfl ?_
  refine jw_dup (pc' := 394) rfl rfl ?_
  obtain ⟨g_5, w⟩ := w
  refine jw_getI (pc' := 397) (F := 259) rfl rfl rfl rfl g_5 ?_
  refine jw_iload (pc' := 399) rfl rfl ?_
  refine jw_iadd (pc' := 400) rfl ?_
  refine jw_putI' (pc' := 403) (F := 259) rfl rfl rfl (Or.inr rfl) (Or.inl rfl) rfl (rfl) (rfl) rfl g_5 (fun h_6 e_7 => ?_)
  replace w := w h_6 e_7
  refine jw_aload_n (pc' := 404) rfl rfl ?_
  refine jw_aload_n (pc' := 405) rfl rfl ?_
  obtain ⟨g_8, w⟩ := w
  refine jw_getI (pc' := 408) (F := 302) rfl rfl rfl rfl g_8 ?_
  refine jw_putI' (pc' := 411) (F := 257) rfl rfl rfl (Or.inr rfl) (Or.inl rfl) rfl (rfl) (rfl) rfl g_5 (fun h_9 e_10 => ?_)
  replace w := w h_9 e_10
  refine jw_aload_n (pc' := 412) rfl rfl ?_
  refine jw_iload (pc' := 414) rfl rfl ?_
  refine jw_putI' (pc' := 417) (F := 258) rfl rfl rfl (Or.inr rfl) (Or.inl rfl) rfl (rfl) (rfl) rfl g_5 (fun h_11 e_12 => ?_)
  replace w := w h_11 e_12
  refine jw_aload_n (pc' := 418) rfl rfl ?_
  refine jw_iconst (pc' := 419) (x := (0 : Int32)) rfl rfl ?_
  refine jw_putI' (pc' := 422) (F := 265) rfl rfl rfl (Or.inr rfl) (Or.inl rfl) rfl (rfl) (rfl) rfl g_5 (fun h_13 e_14 => ?_)
  replace w := w h_13 e_14
  refine jw_iconst (pc' := 423) (x := (0 : Int32)) rfl rfl ?_
  refine jw_istore (pc' := 425) (ls' := [some (vR 41 r0), some (vR 47 r1), some (vR 45 r2), none, some (vI x4), some (vI x5), some (vI x6), some (vI (0 : Int32)), none]) rfl (by decide) rfl ?_
  refine jw_gen (ls' := [some (vR 41 r0), some (vR 47 r1), some (vR 45 r2), none, some (vI x4), some (vI x5), none, some (vI (0 : Int32)), none]) (st' := []) (And.intro (Or.inl rfl) (And.intro (Or.inl rfl) (And.intro (Or.inl rfl) (And.intro (Or.inl rfl) (And.intro (Or.inl rfl) (And.intro (Or.inl rfl) (trivial))))))) (trivial) ?_
  obtain ⟨n, w⟩ := w
  exact l_X8_finish_425 n _ _ _ _ _ _ _ w
def W_X8_finish_317 (D : JD) (d : Nat) (Q : JO → JH → Prop) (K307 : Nat → Nat → Nat → Int32 → Int32 → Int32 → Int32 → JH → Prop) (K317 : Nat → Nat → Nat → Int32 → Int32 → Int32 → Int32 → Int32 → JH → Prop) (r0 : Nat) (r1 : Nat) (r2 : Nat) (x4 : Int32) (x5 : Int32) (x6 : Int32) (x7 : Int32) (x8 : Int32) (h : JH) : Prop :=
  r1 ≠ 0 ∧ (((jfi h 302 r1) ≤ x8 → K307 r0 r1 r2 x4 x5 x6 (x7 + (1 : Int32)) h) ∧ (¬ (jfi h 302 r1) ≤ x8 → r0 ≠ 0 ∧ ((jfr h 214 r0) ≠ 0 ∧ jin (x4 + x7) (jln h (jfr h 214 r0)) ∧ ((jfr h 212 r0) ≠ 0 ∧ jin (((16 : Int32) * (jai h (jfr h 214 r0) (ixn (x4 + x7)))) + x8) (jln h (jfr h 212 r0)) ∧ (cX8_size D d (jar h (jfr h 212 r0) (ixn (((16 : Int32) * (jai h (jfr h 214 r0) (ixn (x4 + x7)))) + x8))) h (pI D h (fun v_10 h_8 => K317 r0 r1 r2 x4 x5 (x6 + v_10) x7 (x8 + (1 : Int32)) h_8) (jth Q)))))))
theorem w_X8_finish_317 {D : JD} {d : Nat} {Q : JO → JH → Prop} {K307 : Nat → Nat → Nat → Int32 → Int32 → Int32 → Int32 → JH → Prop} {K317 : Nat → Nat → Nat → Int32 → Int32 → Int32 → Int32 → Int32 → JH → Prop} {r0 : Nat} {r1 : Nat} {r2 : Nat} {x4 : Int32} {x5 : Int32} {x6 : Int32} {x7 : Int32} {x8 : Int32} {h : JH} (hK307 : ∀ (r0 : Nat) (r1 : Nat) (r2 : Nat) (x4 : Int32) (x5 : Int32) (x6 : Int32) (x7 : Int32) (h : JH), K307 r0 r1 r2 x4 x5 x6 x7 h → JW D (d + 1) mX8_finish 307 [some (vR 41 r0), some (vR 47 r1), some (vR 45 r2), none, some (vI x4), some (vI x5), some (vI x6), some (vI x7), none] [] h Q) (hK317 : ∀ (r0 : Nat) (r1 : Nat) (r2 : Nat) (x4 : Int32) (x5 : Int32) (x6 : Int32) (x7 : Int32) (x8 : Int32) (h : JH), K317 r0 r1 r2 x4 x5 x6 x7 x8 h → JW D (d + 1) mX8_finish 317 [some (vR 41 r0), some (vR 47 r1), some (vR 45 r2), none, some (vI x4), some (vI x5), some (vI x6), some (vI x7), some (vI x8)] [] h Q) (w : W_X8_finish_317 D d Q K307 K317 r0 r1 r2 x4 x5 x6 x7 x8 h) : JW D (d + 1) mX8_finish 317 [some (vR 41 r0), some (vR 47 r1), some (vR 45 r2), none, some (vI x4), some (vI x5), some (vI x6), some (vI x7), some (vI x8)] [] h Q := by
  unfold W_X8_finish_317 at w
  refine jw_iload (pc' := 319) rfl rfl ?_
  refine jw_aload_n (pc' := 320) rfl rfl ?_
  obtain ⟨g_1, w⟩ := w
  refine jw_getI (pc' := 323) (F := 302) rfl rfl rfl rfl g_1 ?_
  refine jw_icmp_ge (tgt := 361) (pc' := 326) rfl rfl (fun c_2 => ?_) (fun c_2 => ?_)
  · replace w := w.1 c_2
    refine jw_iinc (pc' := 364) (y := x7 + (1 : Int32)) (ls' := [some (vR 41 r0), some (vR 47 r1), some (vR 45 r2), none, some (vI x4), some (vI x5), some (vI x6), some (vI (x7 + (1 : Int32))), some (vI x8)]) rfl (by decide) rfl rfl rfl ?_
    refine jw_goto (pc' := 307) rfl rfl ?_
    refine jw_gen (ls' := [some (vR 41 r0), some (vR 47 r1), some (vR 45 r2), none, some (vI x4), some (vI x5), some (vI x6), some (vI (x7 + (1 : Int32))), none]) (st' := []) (And.intro (Or.inl rfl) (And.intro (Or.inl rfl) (And.intro (Or.inl rfl) (And.intro (Or.inl rfl) (And.intro (Or.inl rfl) (And.intro (Or.inl rfl) (And.intro (Or.inl rfl) (trivial)))))))) (trivial) ?_
    exact hK307 _ _ _ _ _ _ _ _ w
  · replace w := w.2 c_2
    refine jw_iload (pc' := 328) rfl rfl ?_
    refine jw_aload_n (pc' := 329) rfl rfl ?_
    obtain ⟨g_3, w⟩ := w
    refine jw_getR (pc' := 332) (F := 212) (t' := 172) rfl rfl rfl rfl rfl g_3 ?_
    refine jw_bipush (pc' := 334) (x := (16 : Int32)) rfl rfl ?_
    refine jw_aload_n (pc' := 335) rfl rfl ?_
    refine jw_getR (pc' := 338) (F := 214) (t' := 173) rfl rfl rfl rfl rfl g_3 ?_
    refine jw_iload (pc' := 340) rfl rfl ?_
    refine jw_iload (pc' := 342) rfl rfl ?_
    refine jw_iadd (pc' := 343) rfl ?_
    obtain ⟨g_4, w⟩ := w
    obtain ⟨g_5, w⟩ := w
    refine jw_iald (pc' := 344) rfl rfl rfl rfl g_4 g_5.ix g_5.2 ?_
    refine jw_imul (pc' := 345) rfl ?_
    refine jw_iload (pc' := 347) rfl rfl ?_
    refine jw_iadd (pc' := 348) rfl ?_
    obtain ⟨g_6, w⟩ := w
    obtain ⟨g_7, w⟩ := w
    refine jw_aald (pc' := 349) (t' := 46) rfl rfl rfl rfl g_6 g_7.ix g_7.2 ?_
    refine jw_cI (st := [vI x6]) (sa := [vR 46 (jar h (jfr h 212 r0) (ixn (((16 : Int32) * (jai h (jfr h 214 r0) (ixn (x4 + x7)))) + x8)))]) okX8_size rfl rfl rfl rfl rfl rfl (jstp_static (sa := [vR 46 (jar h (jfr h 212 r0) (ixn (((16 : Int32) * (jai h (jfr h 214 r0) (ixn (x4 + x7)))) + x8)))]) (st := [vI x6]) rfl rfl sX8_size okX8_size rfl rfl) w (fun v_10 h_8 _ _ w => ?_)
    refine jw_iadd (pc' := 353) rfl ?_
    refine jw_istore (pc' := 355) (ls' := [some (vR 41 r0), some (vR 47 r1), some (vR 45 r2), none, some (vI x4), some (vI x5), some (vI (x6 + v_10)), some (vI x7), some (vI x8)]) rfl (by decide) rfl ?_
    refine jw_iinc (pc' := 358) (y := x8 + (1 : Int32)) (ls' := [some (vR 41 r0), some (vR 47 r1), some (vR 45 r2), none, some (vI x4), some (vI x5), some (vI (x6 + v_10)), some (vI x7), some (vI (x8 + (1 : Int32)))]) rfl (by decide) rfl rfl rfl ?_
    refine jw_goto (pc' := 317) rfl rfl ?_
    exact hK317 _ _ _ _ _ _ _ _ _ w
def L_X8_finish_317 (D : JD) (d : Nat) (Q : JO → JH → Prop) (K307 : Nat → Nat → Nat → Int32 → Int32 → Int32 → Int32 → JH → Prop) : Nat → Nat → Nat → Nat → Int32 → Int32 → Int32 → Int32 → Int32 → JH → Prop
  | 0 => fun _ _ _ _ _ _ _ _ _ => False
  | n + 1 => fun r0 r1 r2 x4 x5 x6 x7 x8 h => W_X8_finish_317 D d Q K307 (L_X8_finish_317 D d Q K307 n) r0 r1 r2 x4 x5 x6 x7 x8 h
theorem l_X8_finish_317 {D : JD} {d : Nat} {Q : JO → JH → Prop} {K307 : Nat → Nat → Nat → Int32 → Int32 → Int32 → Int32 → JH → Prop} (hK307 : ∀ (r0 : Nat) (r1 : Nat) (r2 : Nat) (x4 : Int32) (x5 : Int32) (x6 : Int32) (x7 : Int32) (h : JH), K307 r0 r1 r2 x4 x5 x6 x7 h → JW D (d + 1) mX8_finish 307 [some (vR 41 r0), some (vR 47 r1), some (vR 45 r2), none, some (vI x4), some (vI x5), some (vI x6), some (vI x7), none] [] h Q) : ∀ (n : Nat) (r0 : Nat) (r1 : Nat) (r2 : Nat) (x4 : Int32) (x5 : Int32) (x6 : Int32) (x7 : Int32) (x8 : Int32) (h : JH), L_X8_finish_317 D d Q K307 n r0 r1 r2 x4 x5 x6 x7 x8 h → JW D (d + 1) mX8_finish 317 [some (vR 41 r0), some (vR 47 r1), some (vR 45 r2), none, some (vI x4), some (vI x5), some (vI x6), some (vI x7), some (vI x8)] [] h Q := by
  intro n
  induction n with
  | zero => intro _ _ _ _ _ _ _ _ _ w; exact w.elim
  | succ n ih => intro _ _ _ _ _ _ _ _ h w; exact w_X8_finish_317 hK307 ih w
def W_X8_finish_307 (D : JD) (d : Nat) (Q : JO → JH → Prop) (K307 : Nat → Nat → Nat → Int32 → Int32 → Int32 → Int32 → JH → Prop) (r0 : Nat) (r1 : Nat) (r2 : Nat) (x4 : Int32) (x5 : Int32) (x6 : Int32) (x7 : Int32) (h : JH) : Prop :=
  (x5 ≤ x7 → r2 ≠ 0 ∧ (((8000 : Int32) < ((jfi h 259 r2) + x6) → W_X8_finish_386 D d Q r0 r1 r2 x4 x5 x6 r0 (0 : Int32) h) ∧ (¬ (8000 : Int32) < ((jfi h 259 r2) + x6) → W_X8_finish_386 D d Q r0 r1 r2 x4 x5 x6 r0 (1 : Int32) h))) ∧ (¬ x5 ≤ x7 → ∃ n, L_X8_finish_317 D d Q K307 n r0 r1 r2 x4 x5 x6 x7 (0 : Int32) h)
theorem w_X8_finish_307 {D : JD} {d : Nat} {Q : JO → JH → Prop} {K307 : Nat → Nat → Nat → Int32 → Int32 → Int32 → Int32 → JH → Prop} {r0 : Nat} {r1 : Nat} {r2 : Nat} {x4 : Int32} {x5 : Int32} {x6 : Int32} {x7 : Int32} {h : JH} (hK307 : ∀ (r0 : Nat) (r1 : Nat) (r2 : Nat) (x4 : Int32) (x5 : Int32) (x6 : Int32) (x7 : Int32) (h : JH), K307 r0 r1 r2 x4 x5 x6 x7 h → JW D (d + 1) mX8_finish 307 [some (vR 41 r0), some (vR 47 r1), some (vR 45 r2), none, some (vI x4), some (vI x5), some (vI x6), some (vI x7), none] [] h Q) (w : W_X8_finish_307 D d Q K307 r0 r1 r2 x4 x5 x6 x7 h) : JW D (d + 1) mX8_finish 307 [some (vR 41 r0), some (vR 47 r1), some (vR 45 r2), none, some (vI x4), some (vI x5), some (vI x6), some (vI x7), none] [] h Q := by
  unfold W_X8_finish_307 at w
  refine jw_iload (pc' := 309) rfl rfl ?_
  refine jw_iload (pc' := 311) rfl rfl ?_
  refine jw_icmp_ge (tgt := 367) (pc' := 314) rfl rfl (fun c_1 => ?_) (fun c_1 => ?_)
  · replace w := w.1 c_1
    refine jw_aload_n (pc' := 368) rfl rfl ?_
    refine jw_aload_n (pc' := 369) rfl rfl ?_
    obtain ⟨g_2, w⟩ := w
    refine jw_getI (pc' := 372) (F := 259) rfl rfl rfl rfl g_2 ?_
    refine jw_iload (pc' := 374) rfl rfl ?_
    refine jw_iadd (pc' := 375) rfl ?_
    refine jw_sipush (pc' := 378) (x := (8000 : Int32)) rfl rfl ?_
    refine jw_icmp_gt (tgt := 385) (pc' := 381) rfl rfl (fun c_3 => ?_) (fun c_3 => ?_)
    · replace w := w.1 c_3
      refine jw_iconst (pc' := 386) (x := (0 : Int32)) rfl rfl ?_
      refine jw_gen (ls' := [some (vR 41 r0), some (vR 47 r1), some (vR 45 r2), none, some (vI x4), some (vI x5), some (vI x6), none, none]) (st' := [vI (0 : Int32), vR 41 r0]) (And.intro (Or.inl rfl) (And.intro (Or.inl rfl) (And.intro (Or.inl rfl) (And.intro (Or.inl rfl) (And.intro (Or.inl rfl) (And.intro (Or.inl rfl) (trivial))))))) (And.intro (Or.inl rfl) (And.intro (Or.inl rfl) (trivial))) ?_
      exact w_X8_finish_386 w
    · replace w := w.2 c_3
      refine jw_iconst (pc' := 382) (x := (1 : Int32)) rfl rfl ?_
      refine jw_goto (pc' := 386) rfl rfl ?_
      refine jw_gen (ls' := [some (vR 41 r0), some (vR 47 r1), some (vR 45 r2), none, some (vI x4), some (vI x5), some (vI x6), none, none]) (st' := [vI (1 : Int32), vR 41 r0]) (And.intro (Or.inl rfl) (And.intro (Or.inl rfl) (And.intro (Or.inl rfl) (And.intro (Or.inl rfl) (And.intro (Or.inl rfl) (And.intro (Or.inl rfl) (trivial))))))) (And.intro (Or.inl rfl) (And.intro (Or.inl rfl) (trivial))) ?_
      exact w_X8_finish_386 w
  · replace w := w.2 c_1
    refine jw_iconst (pc' := 315) (x := (0 : Int32)) rfl rfl ?_
    refine jw_istore (pc' := 317) (ls' := [some (vR 41 r0), some (vR 47 r1), some (vR 45 r2), none, some (vI x4), some (vI x5), some (vI x6), some (vI x7), some (vI (0 : Int32))]) rfl (by decide) rfl ?_
    obtain ⟨n, w⟩ := w
    exact l_X8_finish_317 hK307 n _ _ _ _ _ _ _ _ _ w
def L_X8_finish_307 (D : JD) (d : Nat) (Q : JO → JH → Prop) : Nat → Nat → Nat → Nat → Int32 → Int32 → Int32 → Int32 → JH → Prop
  | 0 => fun _ _ _ _ _ _ _ _ => False
  | n + 1 => fun r0 r1 r2 x4 x5 x6 x7 h => W_X8_finish_307 D d Q (L_X8_finish_307 D d Q n) r0 r1 r2 x4 x5 x6 x7 h
theorem l_X8_finish_307 {D : JD} {d : Nat} {Q : JO → JH → Prop} : ∀ (n : Nat) (r0 : Nat) (r1 : Nat) (r2 : Nat) (x4 : Int32) (x5 : Int32) (x6 : Int32) (x7 : Int32) (h : JH), L_X8_finish_307 D d Q n r0 r1 r2 x4 x5 x6 x7 h → JW D (d + 1) mX8_finish 307 [some (vR 41 r0), some (vR 47 r1), some (vR 45 r2), none, some (vI x4), some (vI x5), some (vI x6), some (vI x7), none] [] h Q := by
  intro n
  induction n with
  | zero => intro _ _ _ _ _ _ _ _ w; exact w.elim
  | succ n ih => intro _ _ _ _ _ _ _ h w; exact w_X8_finish_307 ih w
def W_X8_finish_295 (D : JD) (d : Nat) (Q : JO → JH → Prop) (r0 : Nat) (r1 : Nat) (r2 : Nat) (x4 : Int32) (x5 : Int32) (q0 : Nat) (s1 : Int32) (h : JH) : Prop :=
  q0 ≠ 0 ∧ (cX8_must D d q0 s1 (jcs D 302) h (pV D h (fun h_2 => ∃ n, L_X8_finish_307 D d Q n r0 r1 r2 x4 x5 (0 : Int32) (0 : Int32) h_2) (jth Q)))
theorem w_X8_finish_295 {D : JD} {d : Nat} {Q : JO → JH → Prop} {r0 : Nat} {r1 : Nat} {r2 : Nat} {x4 : Int32} {x5 : Int32} {q0 : Nat} {s1 : Int32} {h : JH} (w : W_X8_finish_295 D d Q r0 r1 r2 x4 x5 q0 s1 h) : JW D (d + 1) mX8_finish 295 [some (vR 41 r0), some (vR 47 r1), some (vR 45 r2), none, some (vI x4), some (vI x5), none, none, none] [vI s1, vR 41 q0] h Q := by
  unfold W_X8_finish_295 at w
  refine jw_ldcwS (pc' := 298) rfl rfl rfl rfl ?_
  obtain ⟨g_1, w⟩ := w
  refine jw_cV (st := []) (sa := [vR 41 q0, vI s1, vR 51 (jcs D 302)]) okX8_must rfl rfl rfl rfl rfl rfl (jstp_virtual (sa := [vI s1, vR 51 (jcs D 302)]) (st := []) (k := 0) rfl rfl sX8_must okX8_must g_1 (one41.k g_1) rfl rfl) w (fun h_2 _ _ w => ?_)
  refine jw_iconst (pc' := 302) (x := (0 : Int32)) rfl rfl ?_
  refine jw_istore (pc' := 304) (ls' := [some (vR 41 r0), some (vR 47 r1), some (vR 45 r2), none, some (vI x4), some (vI x5), some (vI (0 : Int32)), none, none]) rfl (by decide) rfl ?_
  refine jw_iconst (pc' := 305) (x := (0 : Int32)) rfl rfl ?_
  refine jw_istore (pc' := 307) (ls' := [some (vR 41 r0), some (vR 47 r1), some (vR 45 r2), none, some (vI x4), some (vI x5), some (vI (0 : Int32)), some (vI (0 : Int32)), none]) rfl (by decide) rfl ?_
  obtain ⟨n, w⟩ := w
  exact l_X8_finish_307 n _ _ _ _ _ _ _ _ w
def W_X8_finish_281 (D : JD) (d : Nat) (Q : JO → JH → Prop) (r0 : Nat) (r1 : Nat) (r2 : Nat) (x4 : Int32) (x5 : Int32) (h : JH) : Prop :=
  ((200 : Int32) < x5 → W_X8_finish_295 D d Q r0 r1 r2 x4 x5 r0 (0 : Int32) h) ∧ (¬ (200 : Int32) < x5 → W_X8_finish_295 D d Q r0 r1 r2 x4 x5 r0 (1 : Int32) h)
theorem w_X8_finish_281 {D : JD} {d : Nat} {Q : JO → JH → Prop} {r0 : Nat} {r1 : Nat} {r2 : Nat} {x4 : Int32} {x5 : Int32} {h : JH} (w : W_X8_finish_281 D d Q r0 r1 r2 x4 x5 h) : JW D (d + 1) mX8_finish 281 [some (vR 41 r0), some (vR 47 r1), some (vR 45 r2), none, some (vI x4), some (vI x5), none, none, none] [] h Q := by
  unfold W_X8_finish_281 at w
  refine jw_aload_n (pc' := 282) rfl rfl ?_
  refine jw_iload (pc' := 284) rfl rfl ?_
  refine jw_sipush (pc' := 287) (x := (200 : Int32)) rfl rfl ?_
  refine jw_icmp_gt (tgt := 294) (pc' := 290) rfl rfl (fun c_1 => ?_) (fun c_1 => ?_)
  · replace w := w.1 c_1
    refine jw_iconst (pc' := 295) (x := (0 : Int32)) rfl rfl ?_
    exact w_X8_finish_295 w
  · replace w := w.2 c_1
    refine jw_iconst (pc' := 291) (x := (1 : Int32)) rfl rfl ?_
    refine jw_goto (pc' := 295) rfl rfl ?_
    exact w_X8_finish_295 w
def W_X8_finish_221 (D : JD) (d : Nat) (Q : JO → JH → Prop) (K156 : Nat → Nat → Nat → Int32 → Int32 → JH → Prop) (r0 : Nat) (r1 : Nat) (r2 : Nat) (x3 : Int32) (x4 : Int32) (x5 : Int32) (x6 : Int32) (h : JH) : Prop :=
  r0 ≠ 0 ∧ ((jfr h 214 r0) ≠ 0 ∧ jin x6 (jln h (jfr h 214 r0)) ∧ ∀ h_4 : JH, h_4 = wai h (jfr h 214 r0) (ixn x6) x5 → (K156 r0 r1 r2 x3 (x4 + (1 : Int32)) h_4))
theorem w_X8_finish_221 {D : JD} {d : Nat} {Q : JO → JH → Prop} {K156 : Nat → Nat → Nat → Int32 → Int32 → JH → Prop} {r0 : Nat} {r1 : Nat} {r2 : Nat} {x3 : Int32} {x4 : Int32} {x5 : Int32} {x6 : Int32} {h : JH} (hK156 : ∀ (r0 : Nat) (r1 : Nat) (r2 : Nat) (x3 : Int32) (x4 : Int32) (h : JH), K156 r0 r1 r2 x3 x4 h → JW D (d + 1) mX8_finish 156 [some (vR 41 r0), some (vR 47 r1), some (vR 45 r2), some (vI x3), some (vI x4), none, none, none, none] [] h Q) (w : W_X8_finish_221 D d Q K156 r0 r1 r2 x3 x4 x5 x6 h) : JW D (d + 1) mX8_finish 221 [some (vR 41 r0), some (vR 47 r1), some (vR 45 r2), some (vI x3), some (vI x4), some (vI x5), some (vI x6), none, none] [] h Q := by
  unfold W_X8_finish_221 at w
  refine jw_aload_n (pc' := 222) rfl rfl ?_
  obtain ⟨g_1, w⟩ := w
  refine jw_getR (pc' := 225) (F := 214) (t' := 173) rfl rfl rfl rfl rfl g_1 ?_
  refine jw_iload (pc' := 227) rfl rfl ?_
  refine jw_iload (pc' := 229) rfl rfl ?_
  obtain ⟨g_2, w⟩ := w
  obtain ⟨g_3, w⟩ := w
  refine jw_iast' (pc' := 230) rfl rfl rfl rfl rfl g_2 g_3 (fun h_4 e_5 => ?_)
  replace w := w h_4 e_5
  refine jw_iinc (pc' := 233) (y := x4 + (1 : Int32)) (ls' := [some (vR 41 r0), some (vR 47 r1), some (vR 45 r2), some (vI x3), some (vI (x4 + (1 : Int32))), some (vI x5), some (vI x6), none, none]) rfl (by decide) rfl rfl rfl ?_
  refine jw_goto (pc' := 156) rfl rfl ?_
  refine jw_gen (ls' := [some (vR 41 r0), some (vR 47 r1), some (vR 45 r2), some (vI x3), some (vI (x4 + (1 : Int32))), none, none, none, none]) (st' := []) (And.intro (Or.inl rfl) (And.intro (Or.inl rfl) (And.intro (Or.inl rfl) (And.intro (Or.inl rfl) (And.intro (Or.inl rfl) (trivial)))))) (trivial) ?_
  exact hK156 _ _ _ _ _ _ w
def W_X8_finish_175 (D : JD) (d : Nat) (Q : JO → JH → Prop) (K156 : Nat → Nat → Nat → Int32 → Int32 → JH → Prop) (K175 : Nat → Nat → Nat → Int32 → Int32 → Int32 → Int32 → JH → Prop) (r0 : Nat) (r1 : Nat) (r2 : Nat) (x3 : Int32) (x4 : Int32) (x5 : Int32) (x6 : Int32) (h : JH) : Prop :=
  (x6 ≤ 0 → W_X8_finish_221 D d Q K156 r0 r1 r2 x3 x4 x5 x6 h) ∧ (¬ x6 ≤ 0 → r0 ≠ 0 ∧ ((jfr h 214 r0) ≠ 0 ∧ jin (x6 - (1 : Int32)) (jln h (jfr h 214 r0)) ∧ (cX8_before D d r0 r1 x5 (jai h (jfr h 214 r0) (ixn (x6 - (1 : Int32)))) h (pI D h (fun v_7 h_5 => (v_7 = 0 → W_X8_finish_221 D d Q K156 r0 r1 r2 x3 x4 x5 x6 h_5) ∧ (¬ v_7 = 0 → (jfr h_5 214 r0) ≠ 0 ∧ jin (x6 - (1 : Int32)) (jln h_5 (jfr h_5 214 r0)) ∧ (jin x6 (jln h_5 (jfr h_5 214 r0)) ∧ ∀ h_12 : JH, h_12 = wai h_5 (jfr h_5 214 r0) (ixn x6) (jai h_5 (jfr h_5 214 r0) (ixn (x6 - (1 : Int32)))) → (K175 r0 r1 r2 x3 x4 x5 (x6 + (-1 : Int32)) h_12)))) (jth Q)))))
theorem w_X8_finish_175 {D : JD} {d : Nat} {Q : JO → JH → Prop} {K156 : Nat → Nat → Nat → Int32 → Int32 → JH → Prop} {K175 : Nat → Nat → Nat → Int32 → Int32 → Int32 → Int32 → JH → Prop} {r0 : Nat} {r1 : Nat} {r2 : Nat} {x3 : Int32} {x4 : Int32} {x5 : Int32} {x6 : Int32} {h : JH} (hK156 : ∀ (r0 : Nat) (r1 : Nat) (r2 : Nat) (x3 : Int32) (x4 : Int32) (h : JH), K156 r0 r1 r2 x3 x4 h → JW D (d + 1) mX8_finish 156 [some (vR 41 r0), some (vR 47 r1), some (vR 45 r2), some (vI x3), some (vI x4), none, none, none, none] [] h Q) (hK175 : ∀ (r0 : Nat) (r1 : Nat) (r2 : Nat) (x3 : Int32) (x4 : Int32) (x5 : Int32) (x6 : Int32) (h : JH), K175 r0 r1 r2 x3 x4 x5 x6 h → JW D (d + 1) mX8_finish 175 [some (vR 41 r0), some (vR 47 r1), some (vR 45 r2), some (vI x3), some (vI x4), some (vI x5), some (vI x6), none, none] [] h Q) (w : W_X8_finish_175 D d Q K156 K175 r0 r1 r2 x3 x4 x5 x6 h) : JW D (d + 1) mX8_finish 175 [some (vR 41 r0), some (vR 47 r1), some (vR 45 r2), some (vI x3), some (vI x4), some (vI x5), some (vI x6), none, none] [] h Q := by
  unfold W_X8_finish_175 at w
  refine jw_iload (pc' := 177) rfl rfl ?_
  refine jw_if_le (tgt := 221) (pc' := 180) rfl rfl (fun c_1 => ?_) (fun c_1 => ?_)
  · replace w := w.1 c_1
    exact w_X8_finish_221 hK156 w
  · replace w := w.2 c_1
    refine jw_aload_n (pc' := 181) rfl rfl ?_
    refine jw_aload_n (pc' := 182) rfl rfl ?_
    refine jw_iload (pc' := 184) rfl rfl ?_
    refine jw_aload_n (pc' := 185) rfl rfl ?_
    obtain ⟨g_2, w⟩ := w
    refine jw_getR (pc' := 188) (F := 214) (t' := 173) rfl rfl rfl rfl rfl g_2 ?_
    refine jw_iload (pc' := 190) rfl rfl ?_
    refine jw_iconst (pc' := 191) (x := (1 : Int32)) rfl rfl ?_
    refine jw_isub (pc' := 192) rfl ?_
    obtain ⟨g_3, w⟩ := w
    obtain ⟨g_4, w⟩ := w
    refine jw_iald (pc' := 193) rfl rfl rfl rfl g_3 g_4.ix g_4.2 ?_
    refine jw_cI (st := []) (sa := [vR 41 r0, vR 47 r1, vI x5, vI (jai h (jfr h 214 r0) (ixn (x6 - (1 : Int32))))]) okX8_before rfl rfl rfl rfl rfl rfl (jstp_virtual (sa := [vR 47 r1, vI x5, vI (jai h (jfr h 214 r0) (ixn (x6 - (1 : Int32))))]) (st := []) (k := 0) rfl rfl sX8_before okX8_before g_2 (one41.k g_2) rfl rfl) w (fun v_7 h_5 _ _ w => ?_)
    refine jw_if_eq (tgt := 221) (pc' := 199) rfl rfl (fun c_8 => ?_) (fun c_8 => ?_)
    · replace w := w.1 c_8
      exact w_X8_finish_221 hK156 w
    · replace w := w.2 c_8
      refine jw_aload_n (pc' := 200) rfl rfl ?_
      refine jw_getR (pc' := 203) (F := 214) (t' := 173) rfl rfl rfl rfl rfl g_2 ?_
      refine jw_iload (pc' := 205) rfl rfl ?_
      refine jw_aload_n (pc' := 206) rfl rfl ?_
      refine jw_getR (pc' := 209) (F := 214) (t' := 173) rfl rfl rfl rfl rfl g_2 ?_
      refine jw_iload (pc' := 211) rfl rfl ?_
      refine jw_iconst (pc' := 212) (x := (1 : Int32)) rfl rfl ?_
      refine jw_isub (pc' := 213) rfl ?_
      obtain ⟨g_9, w⟩ := w
      obtain ⟨g_10, w⟩ := w
      refine jw_iald (pc' := 214) rfl rfl rfl rfl g_9 g_10.ix g_10.2 ?_
      obtain ⟨g_11, w⟩ := w
      refine jw_iast' (pc' := 215) rfl rfl rfl rfl rfl g_9 g_11 (fun h_12 e_13 => ?_)
      replace w := w h_12 e_13
      refine jw_iinc (pc' := 218) (y := x6 + (-1 : Int32)) (ls' := [some (vR 41 r0), some (vR 47 r1), some (vR 45 r2), some (vI x3), some (vI x4), some (vI x5), some (vI (x6 + (-1 : Int32))), none, none]) rfl (by decide) rfl rfl rfl ?_
      refine jw_goto (pc' := 175) rfl rfl ?_
      exact hK175 _ _ _ _ _ _ _ _ w
def L_X8_finish_175 (D : JD) (d : Nat) (Q : JO → JH → Prop) (K156 : Nat → Nat → Nat → Int32 → Int32 → JH → Prop) : Nat → Nat → Nat → Nat → Int32 → Int32 → Int32 → Int32 → JH → Prop
  | 0 => fun _ _ _ _ _ _ _ _ => False
  | n + 1 => fun r0 r1 r2 x3 x4 x5 x6 h => W_X8_finish_175 D d Q K156 (L_X8_finish_175 D d Q K156 n) r0 r1 r2 x3 x4 x5 x6 h
theorem l_X8_finish_175 {D : JD} {d : Nat} {Q : JO → JH → Prop} {K156 : Nat → Nat → Nat → Int32 → Int32 → JH → Prop} (hK156 : ∀ (r0 : Nat) (r1 : Nat) (r2 : Nat) (x3 : Int32) (x4 : Int32) (h : JH), K156 r0 r1 r2 x3 x4 h → JW D (d + 1) mX8_finish 156 [some (vR 41 r0), some (vR 47 r1), some (vR 45 r2), some (vI x3), some (vI x4), none, none, none, none] [] h Q) : ∀ (n : Nat) (r0 : Nat) (r1 : Nat) (r2 : Nat) (x3 : Int32) (x4 : Int32) (x5 : Int32) (x6 : Int32) (h : JH), L_X8_finish_175 D d Q K156 n r0 r1 r2 x3 x4 x5 x6 h → JW D (d + 1) mX8_finish 175 [some (vR 41 r0), some (vR 47 r1), some (vR 45 r2), some (vI x3), some (vI x4), some (vI x5), some (vI x6), none, none] [] h Q := by
  intro n
  induction n with
  | zero => intro _ _ _ _ _ _ _ _ w; exact w.elim
  | succ n ih => intro _ _ _ _ _ _ _ h w; exact w_X8_finish_175 hK156 ih w
def W_X8_finish_156 (D : JD) (d : Nat) (Q : JO → JH → Prop) (K156 : Nat → Nat → Nat → Int32 → Int32 → JH → Prop) (r0 : Nat) (r1 : Nat) (r2 : Nat) (x3 : Int32) (x4 : Int32) (h : JH) : Prop :=
  (x3 ≤ x4 → r1 ≠ 0 ∧ (cJ15_min_2 D d (jfl h 298 r1) (Int32.toInt64 x3) h (pL D h (fun v_4 h_3 => ((lg_cmp (jfl h_3 297 r1) (0 : Int64)) < 0 → W_X8_finish_281 D d Q r0 r1 r2 (Int64.toInt32 v_4) (x3 - (Int64.toInt32 v_4)) h_3) ∧ (¬ (lg_cmp (jfl h_3 297 r1) (0 : Int64)) < 0 → (0 ≤ (lg_cmp (jfl h_3 297 r1) (Int32.toInt64 (x3 - (Int64.toInt32 v_4)))) → W_X8_finish_281 D d Q r0 r1 r2 (Int64.toInt32 v_4) (x3 - (Int64.toInt32 v_4)) h_3) ∧ (¬ 0 ≤ (lg_cmp (jfl h_3 297 r1) (Int32.toInt64 (x3 - (Int64.toInt32 v_4)))) → W_X8_finish_281 D d Q r0 r1 r2 (Int64.toInt32 v_4) (Int64.toInt32 (jfl h_3 297 r1)) h_3))) (jth Q)))) ∧ (¬ x3 ≤ x4 → r0 ≠ 0 ∧ ((jfr h 214 r0) ≠ 0 ∧ jin x4 (jln h (jfr h 214 r0)) ∧ (∃ n, L_X8_finish_175 D d Q K156 n r0 r1 r2 x3 x4 (jai h (jfr h 214 r0) (ixn x4)) x4 h)))
theorem w_X8_finish_156 {D : JD} {d : Nat} {Q : JO → JH → Prop} {K156 : Nat → Nat → Nat → Int32 → Int32 → JH → Prop} {r0 : Nat} {r1 : Nat} {r2 : Nat} {x3 : Int32} {x4 : Int32} {h : JH} (hK156 : ∀ (r0 : Nat) (r1 : Nat) (r2 : Nat) (x3 : Int32) (x4 : Int32) (h : JH), K156 r0 r1 r2 x3 x4 h → JW D (d + 1) mX8_finish 156 [some (vR 41 r0), some (vR 47 r1), some (vR 45 r2), some (vI x3), some (vI x4), none, none, none, none] [] h Q) (w : W_X8_finish_156 D d Q K156 r0 r1 r2 x3 x4 h) : JW D (d + 1) mX8_finish 156 [some (vR 41 r0), some (vR 47 r1), some (vR 45 r2), some (vI x3), some (vI x4), none, none, none, none] [] h Q := by
  unfold W_X8_finish_156 at w
  refine jw_iload (pc' := 158) rfl rfl ?_
  refine jw_iload_n (pc' := 159) rfl rfl ?_
  refine jw_icmp_ge (tgt := 236) (pc' := 162) rfl rfl (fun c_1 => ?_) (fun c_1 => ?_)
  · replace w := w.1 c_1
    refine jw_aload_n (pc' := 237) rfl rfl ?_
    obtain ⟨g_2, w⟩ := w
    refine jw_getL (pc' := 240) (F := 298) rfl rfl rfl rfl g_2 ?_
    refine jw_iload_n (pc' := 241) rfl rfl ?_
    refine jw_i2l (pc' := 242) rfl ?_
    refine jw_cL (st := []) (sa := [vL (jfl h 298 r1), vL (Int32.toInt64 x3)]) okJ15_min_2 rfl rfl rfl rfl rfl rfl (jstp_static (sa := [vL (jfl h 298 r1), vL (Int32.toInt64 x3)]) (st := []) rfl rfl sJ15_min_2 okJ15_min_2 rfl rfl) w (fun v_4 h_3 _ _ w => ?_)
    refine jw_l2i (pc' := 246) rfl ?_
    refine jw_istore (pc' := 248) (ls' := [some (vR 41 r0), some (vR 47 r1), some (vR 45 r2), some (vI x3), some (vI (Int64.toInt32 v_4)), none, none, none, none]) rfl (by decide) rfl ?_
    refine jw_iload_n (pc' := 249) rfl rfl ?_
    refine jw_iload (pc' := 251) rfl rfl ?_
    refine jw_isub (pc' := 252) rfl ?_
    refine jw_istore (pc' := 254) (ls' := [some (vR 41 r0), some (vR 47 r1), some (vR 45 r2), some (vI x3), some (vI (Int64.toInt32 v_4)), some (vI (x3 - (Int64.toInt32 v_4))), none, none, none]) rfl (by decide) rfl ?_
    refine jw_aload_n (pc' := 255) rfl rfl ?_
    refine jw_getL (pc' := 258) (F := 297) rfl rfl rfl rfl g_2 ?_
    refine jw_lconst (pc' := 259) (x := (0 : Int64)) rfl rfl ?_
    refine jw_lcmp (pc' := 260) rfl ?_
    refine jw_if_lt (tgt := 281) (pc' := 263) rfl rfl (fun c_5 => ?_) (fun c_5 => ?_)
    · replace w := w.1 c_5
      refine jw_gen (ls' := [some (vR 41 r0), some (vR 47 r1), some (vR 45 r2), none, some (vI (Int64.toInt32 v_4)), some (vI (x3 - (Int64.toInt32 v_4))), none, none, none]) (st' := []) (And.intro (Or.inl rfl) (And.intro (Or.inl rfl) (And.intro (Or.inl rfl) (And.intro (Or.inl rfl) (And.intro (Or.inl rfl) (trivial)))))) (trivial) ?_
      exact w_X8_finish_281 w
    · replace w := w.2 c_5
      refine jw_aload_n (pc' := 264) rfl rfl ?_
      refine jw_getL (pc' := 267) (F := 297) rfl rfl rfl rfl g_2 ?_
      refine jw_iload (pc' := 269) rfl rfl ?_
      refine jw_i2l (pc' := 270) rfl ?_
      refine jw_lcmp (pc' := 271) rfl ?_
      refine jw_if_ge (tgt := 281) (pc' := 274) rfl rfl (fun c_6 => ?_) (fun c_6 => ?_)
      · replace w := w.1 c_6
        refine jw_gen (ls' := [some (vR 41 r0), some (vR 47 r1), some (vR 45 r2), none, some (vI (Int64.toInt32 v_4)), some (vI (x3 - (Int64.toInt32 v_4))), none, none, none]) (st' := []) (And.intro (Or.inl rfl) (And.intro (Or.inl rfl) (And.intro (Or.inl rfl) (And.intro (Or.inl rfl) (And.intro (Or.inl rfl) (trivial)))))) (trivial) ?_
        exact w_X8_finish_281 w
      · replace w := w.2 c_6
        refine jw_aload_n (pc' := 275) rfl rfl ?_
        refine jw_getL (pc' := 278) (F := 297) rfl rfl rfl rfl g_2 ?_
        refine jw_l2i (pc' := 279) rfl ?_
        refine jw_istore (pc' := 281) (ls' := [some (vR 41 r0), some (vR 47 r1), some (vR 45 r2), some (vI x3), some (vI (Int64.toInt32 v_4)), some (vI (Int64.toInt32 (jfl h_3 297 r1))), none, none, none]) rfl (by decide) rfl ?_
        refine jw_gen (ls' := [some (vR 41 r0), some (vR 47 r1), some (vR 45 r2), none, some (vI (Int64.toInt32 v_4)), some (vI (Int64.toInt32 (jfl h_3 297 r1))), none, none, none]) (st' := []) (And.intro (Or.inl rfl) (And.intro (Or.inl rfl) (And.intro (Or.inl rfl) (And.intro (Or.inl rfl) (And.intro (Or.inl rfl) (trivial)))))) (trivial) ?_
        exact w_X8_finish_281 w
  · replace w := w.2 c_1
    refine jw_aload_n (pc' := 163) rfl rfl ?_
    obtain ⟨g_7, w⟩ := w
    refine jw_getR (pc' := 166) (F := 214) (t' := 173) rfl rfl rfl rfl rfl g_7 ?_
    refine jw_iload (pc' := 168) rfl rfl ?_
    obtain ⟨g_8, w⟩ := w
    obtain ⟨g_9, w⟩ := w
    refine jw_iald (pc' := 169) rfl rfl rfl rfl g_8 g_9.ix g_9.2 ?_
    refine jw_istore (pc' := 171) (ls' := [some (vR 41 r0), some (vR 47 r1), some (vR 45 r2), some (vI x3), some (vI x4), some (vI (jai h (jfr h 214 r0) (ixn x4))), none, none, none]) rfl (by decide) rfl ?_
    refine jw_iload (pc' := 173) rfl rfl ?_
    refine jw_istore (pc' := 175) (ls' := [some (vR 41 r0), some (vR 47 r1), some (vR 45 r2), some (vI x3), some (vI x4), some (vI (jai h (jfr h 214 r0) (ixn x4))), some (vI x4), none, none]) rfl (by decide) rfl ?_
    obtain ⟨n, w⟩ := w
    exact l_X8_finish_175 hK156 n _ _ _ _ _ _ _ _ w
def L_X8_finish_156 (D : JD) (d : Nat) (Q : JO → JH → Prop) : Nat → Nat → Nat → Nat → Int32 → Int32 → JH → Prop
  | 0 => fun _ _ _ _ _ _ => False
  | n + 1 => fun r0 r1 r2 x3 x4 h => W_X8_finish_156 D d Q (L_X8_finish_156 D d Q n) r0 r1 r2 x3 x4 h
theorem l_X8_finish_156 {D : JD} {d : Nat} {Q : JO → JH → Prop} : ∀ (n : Nat) (r0 : Nat) (r1 : Nat) (r2 : Nat) (x3 : Int32) (x4 : Int32) (h : JH), L_X8_finish_156 D d Q n r0 r1 r2 x3 x4 h → JW D (d + 1) mX8_finish 156 [some (vR 41 r0), some (vR 47 r1), some (vR 45 r2), some (vI x3), some (vI x4), none, none, none, none] [] h Q := by
  intro n
  induction n with
  | zero => intro _ _ _ _ _ _ w; exact w.elim
  | succ n ih => intro _ _ _ _ _ h w; exact w_X8_finish_156 ih w
def W_X8_finish_147 (D : JD) (d : Nat) (Q : JO → JH → Prop) (K5 : Nat → Nat → Nat → Int32 → Int32 → JH → Prop) (r0 : Nat) (r1 : Nat) (r2 : Nat) (x3 : Int32) (x4 : Int32) (h : JH) : Prop :=
  K5 r0 r1 r2 x3 (x4 + (1 : Int32)) h
theorem w_X8_finish_147 {D : JD} {d : Nat} {Q : JO → JH → Prop} {K5 : Nat → Nat → Nat → Int32 → Int32 → JH → Prop} {r0 : Nat} {r1 : Nat} {r2 : Nat} {x3 : Int32} {x4 : Int32} {h : JH} (hK5 : ∀ (r0 : Nat) (r1 : Nat) (r2 : Nat) (x3 : Int32) (x4 : Int32) (h : JH), K5 r0 r1 r2 x3 x4 h → JW D (d + 1) mX8_finish 5 [some (vR 41 r0), some (vR 47 r1), some (vR 45 r2), some (vI x3), some (vI x4), none, none, none, none] [] h Q) (w : W_X8_finish_147 D d Q K5 r0 r1 r2 x3 x4 h) : JW D (d + 1) mX8_finish 147 [some (vR 41 r0), some (vR 47 r1), some (vR 45 r2), some (vI x3), some (vI x4), none, none, none, none] [] h Q := by
  unfold W_X8_finish_147 at w
  refine jw_iinc (pc' := 150) (y := x4 + (1 : Int32)) (ls' := [some (vR 41 r0), some (vR 47 r1), some (vR 45 r2), some (vI x3), some (vI (x4 + (1 : Int32))), none, none, none, none]) rfl (by decide) rfl rfl rfl ?_
  refine jw_goto (pc' := 5) rfl rfl ?_
  exact hK5 _ _ _ _ _ _ w
def W_X8_finish_123 (D : JD) (d : Nat) (Q : JO → JH → Prop) (K5 : Nat → Nat → Nat → Int32 → Int32 → JH → Prop) (r0 : Nat) (r1 : Nat) (r2 : Nat) (x3 : Int32) (x4 : Int32) (x5 : Int32) (h : JH) : Prop :=
  (¬ x5 = 0 → r0 ≠ 0 ∧ ((jfr h 214 r0) ≠ 0 ∧ jin x4 (jln h (jfr h 214 r0)) ∧ (jin x3 (jln h (jfr h 214 r0)) ∧ ∀ h_6 : JH, h_6 = wai h (jfr h 214 r0) (ixn x3) (jai h (jfr h 214 r0) (ixn x4)) → (W_X8_finish_147 D d Q K5 r0 r1 r2 (x3 + (1 : Int32)) x4 h_6)))) ∧ (x5 = 0 → W_X8_finish_147 D d Q K5 r0 r1 r2 x3 x4 h)
theorem w_X8_finish_123 {D : JD} {d : Nat} {Q : JO → JH → Prop} {K5 : Nat → Nat → Nat → Int32 → Int32 → JH → Prop} {r0 : Nat} {r1 : Nat} {r2 : Nat} {x3 : Int32} {x4 : Int32} {x5 : Int32} {h : JH} (hK5 : ∀ (r0 : Nat) (r1 : Nat) (r2 : Nat) (x3 : Int32) (x4 : Int32) (h : JH), K5 r0 r1 r2 x3 x4 h → JW D (d + 1) mX8_finish 5 [some (vR 41 r0), some (vR 47 r1), some (vR 45 r2), some (vI x3), some (vI x4), none, none, none, none] [] h Q) (w : W_X8_finish_123 D d Q K5 r0 r1 r2 x3 x4 x5 h) : JW D (d + 1) mX8_finish 123 [some (vR 41 r0), some (vR 47 r1), some (vR 45 r2), some (vI x3), some (vI x4), some (vI x5), none, none, none] [] h Q := by
  unfold W_X8_finish_123 at w
  refine jw_iload (pc' := 125) rfl rfl ?_
  refine jw_if_ne (tgt := 131) (pc' := 128) rfl rfl (fun c_1 => ?_) (fun c_1 => ?_)
  · replace w := w.1 c_1
    refine jw_aload_n (pc' := 132) rfl rfl ?_
    obtain ⟨g_2, w⟩ := w
    refine jw_getR (pc' := 135) (F := 214) (t' := 173) rfl rfl rfl rfl rfl g_2 ?_
    refine jw_iload_n (pc' := 136) rfl rfl ?_
    refine jw_aload_n (pc' := 137) rfl rfl ?_
    refine jw_getR (pc' := 140) (F := 214) (t' := 173) rfl rfl rfl rfl rfl g_2 ?_
    refine jw_iload (pc' := 142) rfl rfl ?_
    obtain ⟨g_3, w⟩ := w
    obtain ⟨g_4, w⟩ := w
    refine jw_iald (pc' := 143) rfl rfl rfl rfl g_3 g_4.ix g_4.2 ?_
    obtain ⟨g_5, w⟩ := w
    refine jw_iast' (pc' := 144) rfl rfl rfl rfl rfl g_3 g_5 (fun h_6 e_7 => ?_)
    replace w := w h_6 e_7
    refine jw_iinc (pc' := 147) (y := x3 + (1 : Int32)) (ls' := [some (vR 41 r0), some (vR 47 r1), some (vR 45 r2), some (vI (x3 + (1 : Int32))), some (vI x4), some (vI x5), none, none, none]) rfl (by decide) rfl rfl rfl ?_
    refine jw_gen (ls' := [some (vR 41 r0), some (vR 47 r1), some (vR 45 r2), some (vI (x3 + (1 : Int32))), some (vI x4), none, none, none, none]) (st' := []) (And.intro (Or.inl rfl) (And.intro (Or.inl rfl) (And.intro (Or.inl rfl) (And.intro (Or.inl rfl) (And.intro (Or.inl rfl) (trivial)))))) (trivial) ?_
    exact w_X8_finish_147 hK5 w
  · replace w := w.2 c_1
    refine jw_goto (pc' := 147) rfl rfl ?_
    refine jw_gen (ls' := [some (vR 41 r0), some (vR 47 r1), some (vR 45 r2), some (vI x3), some (vI x4), none, none, none, none]) (st' := []) (And.intro (Or.inl rfl) (And.intro (Or.inl rfl) (And.intro (Or.inl rfl) (And.intro (Or.inl rfl) (And.intro (Or.inl rfl) (trivial)))))) (trivial) ?_
    exact w_X8_finish_147 hK5 w
def W_X8_finish_115 (D : JD) (d : Nat) (Q : JO → JH → Prop) (K5 : Nat → Nat → Nat → Int32 → Int32 → JH → Prop) (K20 : Nat → Nat → Nat → Int32 → Int32 → Int32 → Int32 → JH → Prop) (r0 : Nat) (r1 : Nat) (r2 : Nat) (x3 : Int32) (x4 : Int32) (x6 : Int32) (s0 : Int32) (h : JH) : Prop :=
  K20 r0 r1 r2 x3 x4 s0 (x6 + (1 : Int32)) h
theorem w_X8_finish_115 {D : JD} {d : Nat} {Q : JO → JH → Prop} {K5 : Nat → Nat → Nat → Int32 → Int32 → JH → Prop} {K20 : Nat → Nat → Nat → Int32 → Int32 → Int32 → Int32 → JH → Prop} {r0 : Nat} {r1 : Nat} {r2 : Nat} {x3 : Int32} {x4 : Int32} {x6 : Int32} {s0 : Int32} {h : JH} (hK5 : ∀ (r0 : Nat) (r1 : Nat) (r2 : Nat) (x3 : Int32) (x4 : Int32) (h : JH), K5 r0 r1 r2 x3 x4 h → JW D (d + 1) mX8_finish 5 [some (vR 41 r0), some (vR 47 r1), some (vR 45 r2), some (vI x3), some (vI x4), none, none, none, none] [] h Q) (hK20 : ∀ (r0 : Nat) (r1 : Nat) (r2 : Nat) (x3 : Int32) (x4 : Int32) (x5 : Int32) (x6 : Int32) (h : JH), K20 r0 r1 r2 x3 x4 x5 x6 h → JW D (d + 1) mX8_finish 20 [some (vR 41 r0), some (vR 47 r1), some (vR 45 r2), some (vI x3), some (vI x4), some (vI x5), some (vI x6), none, none] [] h Q) (w : W_X8_finish_115 D d Q K5 K20 r0 r1 r2 x3 x4 x6 s0 h) : JW D (d + 1) mX8_finish 115 [some (vR 41 r0), some (vR 47 r1), some (vR 45 r2), some (vI x3), some (vI x4), none, some (vI x6), none, none] [vI s0] h Q := by
  unfold W_X8_finish_115 at w
  refine jw_istore (pc' := 117) (ls' := [some (vR 41 r0), some (vR 47 r1), some (vR 45 r2), some (vI x3), some (vI x4), some (vI s0), some (vI x6), none, none]) rfl (by decide) rfl ?_
  refine jw_iinc (pc' := 120) (y := x6 + (1 : Int32)) (ls' := [some (vR 41 r0), some (vR 47 r1), some (vR 45 r2), some (vI x3), some (vI x4), some (vI s0), some (vI (x6 + (1 : Int32))), none, none]) rfl (by decide) rfl rfl rfl ?_
  refine jw_goto (pc' := 20) rfl rfl ?_
  exact hK20 _ _ _ _ _ _ _ _ w
def W_X8_finish_105 (D : JD) (d : Nat) (Q : JO → JH → Prop) (K5 : Nat → Nat → Nat → Int32 → Int32 → JH → Prop) (K20 : Nat → Nat → Nat → Int32 → Int32 → Int32 → Int32 → JH → Prop) (r0 : Nat) (r1 : Nat) (r2 : Nat) (x3 : Int32) (x4 : Int32) (x6 : Int32) (x7 : Int32) (h : JH) : Prop :=
  (¬ x7 = 0 → W_X8_finish_115 D d Q K5 K20 r0 r1 r2 x3 x4 x6 (0 : Int32) h) ∧ (x7 = 0 → W_X8_finish_115 D d Q K5 K20 r0 r1 r2 x3 x4 x6 (1 : Int32) h)
theorem w_X8_finish_105 {D : JD} {d : Nat} {Q : JO → JH → Prop} {K5 : Nat → Nat → Nat → Int32 → Int32 → JH → Prop} {K20 : Nat → Nat → Nat → Int32 → Int32 → Int32 → Int32 → JH → Prop} {r0 : Nat} {r1 : Nat} {r2 : Nat} {x3 : Int32} {x4 : Int32} {x6 : Int32} {x7 : Int32} {h : JH} (hK5 : ∀ (r0 : Nat) (r1 : Nat) (r2 : Nat) (x3 : Int32) (x4 : Int32) (h : JH), K5 r0 r1 r2 x3 x4 h → JW D (d + 1) mX8_finish 5 [some (vR 41 r0), some (vR 47 r1), some (vR 45 r2), some (vI x3), some (vI x4), none, none, none, none] [] h Q) (hK20 : ∀ (r0 : Nat) (r1 : Nat) (r2 : Nat) (x3 : Int32) (x4 : Int32) (x5 : Int32) (x6 : Int32) (h : JH), K20 r0 r1 r2 x3 x4 x5 x6 h → JW D (d + 1) mX8_finish 20 [some (vR 41 r0), some (vR 47 r1), some (vR 45 r2), some (vI x3), some (vI x4), some (vI x5), some (vI x6), none, none] [] h Q) (w : W_X8_finish_105 D d Q K5 K20 r0 r1 r2 x3 x4 x6 x7 h) : JW D (d + 1) mX8_finish 105 [some (vR 41 r0), some (vR 47 r1), some (vR 45 r2), some (vI x3), some (vI x4), none, some (vI x6), some (vI x7), none] [] h Q := by
  unfold W_X8_finish_105 at w
  refine jw_iload (pc' := 107) rfl rfl ?_
  refine jw_if_ne (tgt := 114) (pc' := 110) rfl rfl (fun c_1 => ?_) (fun c_1 => ?_)
  · replace w := w.1 c_1
    refine jw_iconst (pc' := 115) (x := (0 : Int32)) rfl rfl ?_
    refine jw_gen (ls' := [some (vR 41 r0), some (vR 47 r1), some (vR 45 r2), some (vI x3), some (vI x4), none, some (vI x6), none, none]) (st' := [vI (0 : Int32)]) (And.intro (Or.inl rfl) (And.intro (Or.inl rfl) (And.intro (Or.inl rfl) (And.intro (Or.inl rfl) (And.intro (Or.inl rfl) (And.intro (Or.inl rfl) (trivial))))))) (And.intro (Or.inl rfl) (trivial)) ?_
    exact w_X8_finish_115 hK5 hK20 w
  · replace w := w.2 c_1
    refine jw_iconst (pc' := 111) (x := (1 : Int32)) rfl rfl ?_
    refine jw_goto (pc' := 115) rfl rfl ?_
    refine jw_gen (ls' := [some (vR 41 r0), some (vR 47 r1), some (vR 45 r2), some (vI x3), some (vI x4), none, some (vI x6), none, none]) (st' := [vI (1 : Int32)]) (And.intro (Or.inl rfl) (And.intro (Or.inl rfl) (And.intro (Or.inl rfl) (And.intro (Or.inl rfl) (And.intro (Or.inl rfl) (And.intro (Or.inl rfl) (trivial))))))) (And.intro (Or.inl rfl) (trivial)) ?_
    exact w_X8_finish_115 hK5 hK20 w
def W_X8_finish_44 (D : JD) (d : Nat) (Q : JO → JH → Prop) (K5 : Nat → Nat → Nat → Int32 → Int32 → JH → Prop) (K20 : Nat → Nat → Nat → Int32 → Int32 → Int32 → Int32 → JH → Prop) (K44 : Nat → Nat → Nat → Int32 → Int32 → Int32 → Int32 → Int32 → JH → Prop) (r0 : Nat) (r1 : Nat) (r2 : Nat) (x3 : Int32) (x4 : Int32) (x6 : Int32) (x7 : Int32) (x8 : Int32) (h : JH) : Prop :=
  r1 ≠ 0 ∧ (((jfi h 302 r1) ≤ x8 → W_X8_finish_105 D d Q K5 K20 r0 r1 r2 x3 x4 x6 x7 h) ∧ (¬ (jfi h 302 r1) ≤ x8 → (x7 = 0 → W_X8_finish_105 D d Q K5 K20 r0 r1 r2 x3 x4 x6 x7 h) ∧ (¬ x7 = 0 → r0 ≠ 0 ∧ ((jfr h 214 r0) ≠ 0 ∧ jin x4 (jln h (jfr h 214 r0)) ∧ ((jfr h 212 r0) ≠ 0 ∧ jin (((16 : Int32) * (jai h (jfr h 214 r0) (ixn x4))) + x8) (jln h (jfr h 212 r0)) ∧ (jin x6 (jln h (jfr h 214 r0)) ∧ (jin (((16 : Int32) * (jai h (jfr h 214 r0) (ixn x6))) + x8) (jln h (jfr h 212 r0)) ∧ (cX8_alike D d (jar h (jfr h 212 r0) (ixn (((16 : Int32) * (jai h (jfr h 214 r0) (ixn x4))) + x8))) (jar h (jfr h 212 r0) (ixn (((16 : Int32) * (jai h (jfr h 214 r0) (ixn x6))) + x8))) h (pI D h (fun v_13 h_11 => K44 r0 r1 r2 x3 x4 x6 v_13 (x8 + (1 : Int32)) h_11) (jth Q))))))))))
theorem w_X8_finish_44 {D : JD} {d : Nat} {Q : JO → JH → Prop} {K5 : Nat → Nat → Nat → Int32 → Int32 → JH → Prop} {K20 : Nat → Nat → Nat → Int32 → Int32 → Int32 → Int32 → JH → Prop} {K44 : Nat → Nat → Nat → Int32 → Int32 → Int32 → Int32 → Int32 → JH → Prop} {r0 : Nat} {r1 : Nat} {r2 : Nat} {x3 : Int32} {x4 : Int32} {x6 : Int32} {x7 : Int32} {x8 : Int32} {h : JH} (hK5 : ∀ (r0 : Nat) (r1 : Nat) (r2 : Nat) (x3 : Int32) (x4 : Int32) (h : JH), K5 r0 r1 r2 x3 x4 h → JW D (d + 1) mX8_finish 5 [some (vR 41 r0), some (vR 47 r1), some (vR 45 r2), some (vI x3), some (vI x4), none, none, none, none] [] h Q) (hK20 : ∀ (r0 : Nat) (r1 : Nat) (r2 : Nat) (x3 : Int32) (x4 : Int32) (x5 : Int32) (x6 : Int32) (h : JH), K20 r0 r1 r2 x3 x4 x5 x6 h → JW D (d + 1) mX8_finish 20 [some (vR 41 r0), some (vR 47 r1), some (vR 45 r2), some (vI x3), some (vI x4), some (vI x5), some (vI x6), none, none] [] h Q) (hK44 : ∀ (r0 : Nat) (r1 : Nat) (r2 : Nat) (x3 : Int32) (x4 : Int32) (x6 : Int32) (x7 : Int32) (x8 : Int32) (h : JH), K44 r0 r1 r2 x3 x4 x6 x7 x8 h → JW D (d + 1) mX8_finish 44 [some (vR 41 r0), some (vR 47 r1), some (vR 45 r2), some (vI x3), some (vI x4), none, some (vI x6), some (vI x7), some (vI x8)] [] h Q) (w : W_X8_finish_44 D d Q K5 K20 K44 r0 r1 r2 x3 x4 x6 x7 x8 h) : JW D (d + 1) mX8_finish 44 [some (vR 41 r0), some (vR 47 r1), some (vR 45 r2), some (vI x3), some (vI x4), none, some (vI x6), some (vI x7), some (vI x8)] [] h Q := by
  unfold W_X8_finish_44 at w
  refine jw_iload (pc' := 46) rfl rfl ?_
  refine jw_aload_n (pc' := 47) rfl rfl ?_
  obtain ⟨g_1, w⟩ := w
  refine jw_getI (pc' := 50) (F := 302) rfl rfl rfl rfl g_1 ?_
  refine jw_icmp_ge (tgt := 105) (pc' := 53) rfl rfl (fun c_2 => ?_) (fun c_2 => ?_)
  · replace w := w.1 c_2
    refine jw_gen (ls' := [some (vR 41 r0), some (vR 47 r1), some (vR 45 r2), some (vI x3), some (vI x4), none, some (vI x6), some (vI x7), none]) (st' := []) (And.intro (Or.inl rfl) (And.intro (Or.inl rfl) (And.intro (Or.inl rfl) (And.intro (Or.inl rfl) (And.intro (Or.inl rfl) (And.intro (Or.inl rfl) (And.intro (Or.inl rfl) (trivial)))))))) (trivial) ?_
    exact w_X8_finish_105 hK5 hK20 w
  · replace w := w.2 c_2
    refine jw_iload (pc' := 55) rfl rfl ?_
    refine jw_if_eq (tgt := 105) (pc' := 58) rfl rfl (fun c_3 => ?_) (fun c_3 => ?_)
    · replace w := w.1 c_3
      refine jw_gen (ls' := [some (vR 41 r0), some (vR 47 r1), some (vR 45 r2), some (vI x3), some (vI x4), none, some (vI x6), some (vI x7), none]) (st' := []) (And.intro (Or.inl rfl) (And.intro (Or.inl rfl) (And.intro (Or.inl rfl) (And.intro (Or.inl rfl) (And.intro (Or.inl rfl) (And.intro (Or.inl rfl) (And.intro (Or.inl rfl) (trivial)))))))) (trivial) ?_
      exact w_X8_finish_105 hK5 hK20 w
    · replace w := w.2 c_3
      refine jw_aload_n (pc' := 59) rfl rfl ?_
      obtain ⟨g_4, w⟩ := w
      refine jw_getR (pc' := 62) (F := 212) (t' := 172) rfl rfl rfl rfl rfl g_4 ?_
      refine jw_bipush (pc' := 64) (x := (16 : Int32)) rfl rfl ?_
      refine jw_aload_n (pc' := 65) rfl rfl ?_
      refine jw_getR (pc' := 68) (F := 214) (t' := 173) rfl rfl rfl rfl rfl g_4 ?_
      refine jw_iload (pc' := 70) rfl rfl ?_
      obtain ⟨g_5, w⟩ := w
      obtain ⟨g_6, w⟩ := w
      refine jw_iald (pc' := 71) rfl rfl rfl rfl g_5 g_6.ix g_6.2 ?_
      refine jw_imul (pc' := 72) rfl ?_
      refine jw_iload (pc' := 74) rfl rfl ?_
      refine jw_iadd (pc' := 75) rfl ?_
      obtain ⟨g_7, w⟩ := w
      obtain ⟨g_8, w⟩ := w
      refine jw_aald (pc' := 76) (t' := 46) rfl rfl rfl rfl g_7 g_8.ix g_8.2 ?_
      refine jw_aload_n (pc' := 77) rfl rfl ?_
      refine jw_getR (pc' := 80) (F := 212) (t' := 172) rfl rfl rfl rfl rfl g_4 ?_
      refine jw_bipush (pc' := 82) (x := (16 : Int32)) rfl rfl ?_
      refine jw_aload_n (pc' := 83) rfl rfl ?_
      refine jw_getR (pc' := 86) (F := 214) (t' := 173) rfl rfl rfl rfl rfl g_4 ?_
      refine jw_iload (pc' := 88) rfl rfl ?_
      obtain ⟨g_9, w⟩ := w
      refine jw_iald (pc' := 89) rfl rfl rfl rfl g_5 g_9.ix g_9.2 ?_
      refine jw_imul (pc' := 90) rfl ?_
      refine jw_iload (pc' := 92) rfl rfl ?_
      refine jw_iadd (pc' := 93) rfl ?_
      obtain ⟨g_10, w⟩ := w
      refine jw_aald (pc' := 94) (t' := 46) rfl rfl rfl rfl g_7 g_10.ix g_10.2 ?_
      refine jw_cI (st := []) (sa := [vR 46 (jar h (jfr h 212 r0) (ixn (((16 : Int32) * (jai h (jfr h 214 r0) (ixn x4))) + x8))), vR 46 (jar h (jfr h 212 r0) (ixn (((16 : Int32) * (jai h (jfr h 214 r0) (ixn x6))) + x8)))]) okX8_alike rfl rfl rfl rfl rfl rfl (jstp_static (sa := [vR 46 (jar h (jfr h 212 r0) (ixn (((16 : Int32) * (jai h (jfr h 214 r0) (ixn x4))) + x8))), vR 46 (jar h (jfr h 212 r0) (ixn (((16 : Int32) * (jai h (jfr h 214 r0) (ixn x6))) + x8)))]) (st := []) rfl rfl sX8_alike okX8_alike rfl rfl) w (fun v_13 h_11 _ _ w => ?_)
      refine jw_istore (pc' := 99) (ls' := [some (vR 41 r0), some (vR 47 r1), some (vR 45 r2), some (vI x3), some (vI x4), none, some (vI x6), some (vI v_13), some (vI x8)]) rfl (by decide) rfl ?_
      refine jw_iinc (pc' := 102) (y := x8 + (1 : Int32)) (ls' := [some (vR 41 r0), some (vR 47 r1), some (vR 45 r2), some (vI x3), some (vI x4), none, some (vI x6), some (vI v_13), some (vI (x8 + (1 : Int32)))]) rfl (by decide) rfl rfl rfl ?_
      refine jw_goto (pc' := 44) rfl rfl ?_
      exact hK44 _ _ _ _ _ _ _ _ _ w
def L_X8_finish_44 (D : JD) (d : Nat) (Q : JO → JH → Prop) (K5 : Nat → Nat → Nat → Int32 → Int32 → JH → Prop) (K20 : Nat → Nat → Nat → Int32 → Int32 → Int32 → Int32 → JH → Prop) : Nat → Nat → Nat → Nat → Int32 → Int32 → Int32 → Int32 → Int32 → JH → Prop
  | 0 => fun _ _ _ _ _ _ _ _ _ => False
  | n + 1 => fun r0 r1 r2 x3 x4 x6 x7 x8 h => W_X8_finish_44 D d Q K5 K20 (L_X8_finish_44 D d Q K5 K20 n) r0 r1 r2 x3 x4 x6 x7 x8 h
theorem l_X8_finish_44 {D : JD} {d : Nat} {Q : JO → JH → Prop} {K5 : Nat → Nat → Nat → Int32 → Int32 → JH → Prop} {K20 : Nat → Nat → Nat → Int32 → Int32 → Int32 → Int32 → JH → Prop} (hK5 : ∀ (r0 : Nat) (r1 : Nat) (r2 : Nat) (x3 : Int32) (x4 : Int32) (h : JH), K5 r0 r1 r2 x3 x4 h → JW D (d + 1) mX8_finish 5 [some (vR 41 r0), some (vR 47 r1), some (vR 45 r2), some (vI x3), some (vI x4), none, none, none, none] [] h Q) (hK20 : ∀ (r0 : Nat) (r1 : Nat) (r2 : Nat) (x3 : Int32) (x4 : Int32) (x5 : Int32) (x6 : Int32) (h : JH), K20 r0 r1 r2 x3 x4 x5 x6 h → JW D (d + 1) mX8_finish 20 [some (vR 41 r0), some (vR 47 r1), some (vR 45 r2), some (vI x3), some (vI x4), some (vI x5), some (vI x6), none, none] [] h Q) : ∀ (n : Nat) (r0 : Nat) (r1 : Nat) (r2 : Nat) (x3 : Int32) (x4 : Int32) (x6 : Int32) (x7 : Int32) (x8 : Int32) (h : JH), L_X8_finish_44 D d Q K5 K20 n r0 r1 r2 x3 x4 x6 x7 x8 h → JW D (d + 1) mX8_finish 44 [some (vR 41 r0), some (vR 47 r1), some (vR 45 r2), some (vI x3), some (vI x4), none, some (vI x6), some (vI x7), some (vI x8)] [] h Q := by
  intro n
  induction n with
  | zero => intro _ _ _ _ _ _ _ _ _ w; exact w.elim
  | succ n ih => intro _ _ _ _ _ _ _ _ h w; exact w_X8_finish_44 hK5 hK20 ih w
def W_X8_finish_20 (D : JD) (d : Nat) (Q : JO → JH → Prop) (K5 : Nat → Nat → Nat → Int32 → Int32 → JH → Prop) (K20 : Nat → Nat → Nat → Int32 → Int32 → Int32 → Int32 → JH → Prop) (r0 : Nat) (r1 : Nat) (r2 : Nat) (x3 : Int32) (x4 : Int32) (x5 : Int32) (x6 : Int32) (h : JH) : Prop :=
  (x3 ≤ x6 → W_X8_finish_123 D d Q K5 r0 r1 r2 x3 x4 x5 h) ∧ (¬ x3 ≤ x6 → r1 ≠ 0 ∧ (((jfi h 283 r1) = 0 → W_X8_finish_123 D d Q K5 r0 r1 r2 x3 x4 x5 h) ∧ (¬ (jfi h 283 r1) = 0 → (x5 = 0 → W_X8_finish_123 D d Q K5 r0 r1 r2 x3 x4 x5 h) ∧ (¬ x5 = 0 → ∃ n, L_X8_finish_44 D d Q K5 K20 n r0 r1 r2 x3 x4 x6 (1 : Int32) (0 : Int32) h))))
theorem w_X8_finish_20 {D : JD} {d : Nat} {Q : JO → JH → Prop} {K5 : Nat → Nat → Nat → Int32 → Int32 → JH → Prop} {K20 : Nat → Nat → Nat → Int32 → Int32 → Int32 → Int32 → JH → Prop} {r0 : Nat} {r1 : Nat} {r2 : Nat} {x3 : Int32} {x4 : Int32} {x5 : Int32} {x6 : Int32} {h : JH} (hK5 : ∀ (r0 : Nat) (r1 : Nat) (r2 : Nat) (x3 : Int32) (x4 : Int32) (h : JH), K5 r0 r1 r2 x3 x4 h → JW D (d + 1) mX8_finish 5 [some (vR 41 r0), some (vR 47 r1), some (vR 45 r2), some (vI x3), some (vI x4), none, none, none, none] [] h Q) (hK20 : ∀ (r0 : Nat) (r1 : Nat) (r2 : Nat) (x3 : Int32) (x4 : Int32) (x5 : Int32) (x6 : Int32) (h : JH), K20 r0 r1 r2 x3 x4 x5 x6 h → JW D (d + 1) mX8_finish 20 [some (vR 41 r0), some (vR 47 r1), some (vR 45 r2), some (vI x3), some (vI x4), some (vI x5), some (vI x6), none, none] [] h Q) (w : W_X8_finish_20 D d Q K5 K20 r0 r1 r2 x3 x4 x5 x6 h) : JW D (d + 1) mX8_finish 20 [some (vR 41 r0), some (vR 47 r1), some (vR 45 r2), some (vI x3), some (vI x4), some (vI x5), some (vI x6), none, none] [] h Q := by
  unfold W_X8_finish_20 at w
  refine jw_iload (pc' := 22) rfl rfl ?_
  refine jw_iload_n (pc' := 23) rfl rfl ?_
  refine jw_icmp_ge (tgt := 123) (pc' := 26) rfl rfl (fun c_1 => ?_) (fun c_1 => ?_)
  · replace w := w.1 c_1
    refine jw_gen (ls' := [some (vR 41 r0), some (vR 47 r1), some (vR 45 r2), some (vI x3), some (vI x4), some (vI x5), none, none, none]) (st' := []) (And.intro (Or.inl rfl) (And.intro (Or.inl rfl) (And.intro (Or.inl rfl) (And.intro (Or.inl rfl) (And.intro (Or.inl rfl) (And.intro (Or.inl rfl) (trivial))))))) (trivial) ?_
    exact w_X8_finish_123 hK5 w
  · replace w := w.2 c_1
    refine jw_aload_n (pc' := 27) rfl rfl ?_
    obtain ⟨g_2, w⟩ := w
    refine jw_getI (pc' := 30) (F := 283) rfl rfl rfl rfl g_2 ?_
    refine jw_if_eq (tgt := 123) (pc' := 33) rfl rfl (fun c_3 => ?_) (fun c_3 => ?_)
    · replace w := w.1 c_3
      refine jw_gen (ls' := [some (vR 41 r0), some (vR 47 r1), some (vR 45 r2), some (vI x3), some (vI x4), some (vI x5), none, none, none]) (st' := []) (And.intro (Or.inl rfl) (And.intro (Or.inl rfl) (And.intro (Or.inl rfl) (And.intro (Or.inl rfl) (And.intro (Or.inl rfl) (And.intro (Or.inl rfl) (trivial))))))) (trivial) ?_
      exact w_X8_finish_123 hK5 w
    · replace w := w.2 c_3
      refine jw_iload (pc' := 35) rfl rfl ?_
      refine jw_if_eq (tgt := 123) (pc' := 38) rfl rfl (fun c_4 => ?_) (fun c_4 => ?_)
      · replace w := w.1 c_4
        refine jw_gen (ls' := [some (vR 41 r0), some (vR 47 r1), some (vR 45 r2), some (vI x3), some (vI x4), some (vI x5), none, none, none]) (st' := []) (And.intro (Or.inl rfl) (And.intro (Or.inl rfl) (And.intro (Or.inl rfl) (And.intro (Or.inl rfl) (And.intro (Or.inl rfl) (And.intro (Or.inl rfl) (trivial))))))) (trivial) ?_
        exact w_X8_finish_123 hK5 w
      · replace w := w.2 c_4
        refine jw_iconst (pc' := 39) (x := (1 : Int32)) rfl rfl ?_
        refine jw_istore (pc' := 41) (ls' := [some (vR 41 r0), some (vR 47 r1), some (vR 45 r2), some (vI x3), some (vI x4), some (vI x5), some (vI x6), some (vI (1 : Int32)), none]) rfl (by decide) rfl ?_
        refine jw_iconst (pc' := 42) (x := (0 : Int32)) rfl rfl ?_
        refine jw_istore (pc' := 44) (ls' := [some (vR 41 r0), some (vR 47 r1), some (vR 45 r2), some (vI x3), some (vI x4), some (vI x5), some (vI x6), some (vI (1 : Int32)), some (vI (0 : Int32))]) rfl (by decide) rfl ?_
        refine jw_gen (ls' := [some (vR 41 r0), some (vR 47 r1), some (vR 45 r2), some (vI x3), some (vI x4), none, some (vI x6), some (vI (1 : Int32)), some (vI (0 : Int32))]) (st' := []) (And.intro (Or.inl rfl) (And.intro (Or.inl rfl) (And.intro (Or.inl rfl) (And.intro (Or.inl rfl) (And.intro (Or.inl rfl) (And.intro (Or.inl rfl) (And.intro (Or.inl rfl) (And.intro (Or.inl rfl) (trivial))))))))) (trivial) ?_
        obtain ⟨n, w⟩ := w
        exact l_X8_finish_44 hK5 hK20 n _ _ _ _ _ _ _ _ _ w
def L_X8_finish_20 (D : JD) (d : Nat) (Q : JO → JH → Prop) (K5 : Nat → Nat → Nat → Int32 → Int32 → JH → Prop) : Nat → Nat → Nat → Nat → Int32 → Int32 → Int32 → Int32 → JH → Prop
  | 0 => fun _ _ _ _ _ _ _ _ => False
  | n + 1 => fun r0 r1 r2 x3 x4 x5 x6 h => W_X8_finish_20 D d Q K5 (L_X8_finish_20 D d Q K5 n) r0 r1 r2 x3 x4 x5 x6 h
theorem l_X8_finish_20 {D : JD} {d : Nat} {Q : JO → JH → Prop} {K5 : Nat → Nat → Nat → Int32 → Int32 → JH → Prop} (hK5 : ∀ (r0 : Nat) (r1 : Nat) (r2 : Nat) (x3 : Int32) (x4 : Int32) (h : JH), K5 r0 r1 r2 x3 x4 h → JW D (d + 1) mX8_finish 5 [some (vR 41 r0), some (vR 47 r1), some (vR 45 r2), some (vI x3), some (vI x4), none, none, none, none] [] h Q) : ∀ (n : Nat) (r0 : Nat) (r1 : Nat) (r2 : Nat) (x3 : Int32) (x4 : Int32) (x5 : Int32) (x6 : Int32) (h : JH), L_X8_finish_20 D d Q K5 n r0 r1 r2 x3 x4 x5 x6 h → JW D (d + 1) mX8_finish 20 [some (vR 41 r0), some (vR 47 r1), some (vR 45 r2), some (vI x3), some (vI x4), some (vI x5), some (vI x6), none, none] [] h Q := by
  intro n
  induction n with
  | zero => intro _ _ _ _ _ _ _ _ w; exact w.elim
  | succ n ih => intro _ _ _ _ _ _ _ h w; exact w_X8_finish_20 hK5 ih w
def W_X8_finish_5 (D : JD) (d : Nat) (Q : JO → JH → Prop) (K5 : Nat → Nat → Nat → Int32 → Int32 → JH → Prop) (r0 : Nat) (r1 : Nat) (r2 : Nat) (x3 : Int32) (x4 : Int32) (h : JH) : Prop :=
  r0 ≠ 0 ∧ (((jfi h 215 r0) ≤ x4 → ∃ n, L_X8_finish_156 D d Q n r0 r1 r2 x3 (1 : Int32) h) ∧ (¬ (jfi h 215 r0) ≤ x4 → ∃ n, L_X8_finish_20 D d Q K5 n r0 r1 r2 x3 x4 (1 : Int32) (0 : Int32) h))
theorem w_X8_finish_5 {D : JD} {d : Nat} {Q : JO → JH → Prop} {K5 : Nat → Nat → Nat → Int32 → Int32 → JH → Prop} {r0 : Nat} {r1 : Nat} {r2 : Nat} {x3 : Int32} {x4 : Int32} {h : JH} (hK5 : ∀ (r0 : Nat) (r1 : Nat) (r2 : Nat) (x3 : Int32) (x4 : Int32) (h : JH), K5 r0 r1 r2 x3 x4 h → JW D (d + 1) mX8_finish 5 [some (vR 41 r0), some (vR 47 r1), some (vR 45 r2), some (vI x3), some (vI x4), none, none, none, none] [] h Q) (w : W_X8_finish_5 D d Q K5 r0 r1 r2 x3 x4 h) : JW D (d + 1) mX8_finish 5 [some (vR 41 r0), some (vR 47 r1), some (vR 45 r2), some (vI x3), some (vI x4), none, none, none, none] [] h Q := by
  unfold W_X8_finish_5 at w
  refine jw_iload (pc' := 7) rfl rfl ?_
  refine jw_aload_n (pc' := 8) rfl rfl ?_
  obtain ⟨g_1, w⟩ := w
  refine jw_getI (pc' := 11) (F := 215) rfl rfl rfl rfl g_1 ?_
  refine jw_icmp_ge (tgt := 153) (pc' := 14) rfl rfl (fun c_2 => ?_) (fun c_2 => ?_)
  · replace w := w.1 c_2
    refine jw_iconst (pc' := 154) (x := (1 : Int32)) rfl rfl ?_
    refine jw_istore (pc' := 156) (ls' := [some (vR 41 r0), some (vR 47 r1), some (vR 45 r2), some (vI x3), some (vI (1 : Int32)), none, none, none, none]) rfl (by decide) rfl ?_
    obtain ⟨n, w⟩ := w
    exact l_X8_finish_156 n _ _ _ _ _ _ w
  · replace w := w.2 c_2
    refine jw_iconst (pc' := 15) (x := (1 : Int32)) rfl rfl ?_
    refine jw_istore (pc' := 17) (ls' := [some (vR 41 r0), some (vR 47 r1), some (vR 45 r2), some (vI x3), some (vI x4), some (vI (1 : Int32)), none, none, none]) rfl (by decide) rfl ?_
    refine jw_iconst (pc' := 18) (x := (0 : Int32)) rfl rfl ?_
    refine jw_istore (pc' := 20) (ls' := [some (vR 41 r0), some (vR 47 r1), some (vR 45 r2), some (vI x3), some (vI x4), some (vI (1 : Int32)), some (vI (0 : Int32)), none, none]) rfl (by decide) rfl ?_
    obtain ⟨n, w⟩ := w
    exact l_X8_finish_20 hK5 n _ _ _ _ _ _ _ _ w
def L_X8_finish_5 (D : JD) (d : Nat) (Q : JO → JH → Prop) : Nat → Nat → Nat → Nat → Int32 → Int32 → JH → Prop
  | 0 => fun _ _ _ _ _ _ => False
  | n + 1 => fun r0 r1 r2 x3 x4 h => W_X8_finish_5 D d Q (L_X8_finish_5 D d Q n) r0 r1 r2 x3 x4 h
theorem l_X8_finish_5 {D : JD} {d : Nat} {Q : JO → JH → Prop} : ∀ (n : Nat) (r0 : Nat) (r1 : Nat) (r2 : Nat) (x3 : Int32) (x4 : Int32) (h : JH), L_X8_finish_5 D d Q n r0 r1 r2 x3 x4 h → JW D (d + 1) mX8_finish 5 [some (vR 41 r0), some (vR 47 r1), some (vR 45 r2), some (vI x3), some (vI x4), none, none, none, none] [] h Q := by
  intro n
  induction n with
  | zero => intro _ _ _ _ _ _ w; exact w.elim
  | succ n ih => intro _ _ _ _ _ h w; exact w_X8_finish_5 ih w
def W_X8_finish_0 (D : JD) (d : Nat) (Q : JO → JH → Prop) (r0 : Nat) (r1 : Nat) (r2 : Nat) (h : JH) : Prop :=
  ∃ n, L_X8_finish_5 D d Q n r0 r1 r2 (0 : Int32) (0 : Int32) h
theorem w_X8_finish_0 {D : JD} {d : Nat} {Q : JO → JH → Prop} {r0 : Nat} {r1 : Nat} {r2 : Nat} {h : JH} (w : W_X8_finish_0 D d Q r0 r1 r2 h) : JW D (d + 1) mX8_finish 0 [some (vR 41 r0), some (vR 47 r1), some (vR 45 r2), none, none, none, none, none, none] [] h Q := by
  unfold W_X8_finish_0 at w
  refine jw_iconst (pc' := 1) (x := (0 : Int32)) rfl rfl ?_
  refine jw_istore_n (pc' := 2) (ls' := [some (vR 41 r0), some (vR 47 r1), some (vR 45 r2), some (vI (0 : Int32)), none, none, none, none, none]) rfl (by decide) rfl ?_
  refine jw_iconst (pc' := 3) (x := (0 : Int32)) rfl rfl ?_
  refine jw_istore (pc' := 5) (ls' := [some (vR 41 r0), some (vR 47 r1), some (vR 45 r2), some (vI (0 : Int32)), some (vI (0 : Int32)), none, none, none, none]) rfl (by decide) rfl ?_
  obtain ⟨n, w⟩ := w
  exact l_X8_finish_5 n _ _ _ _ _ _ w
def T_X8_finish (D : JD) (d : Nat) (Q : JO → JH → Prop) (r0 : Nat) (r1 : Nat) (r2 : Nat) (h : JH) : Prop := W_X8_finish_0 D d Q r0 r1 r2 h
theorem t_X8_finish {D : JD} {d : Nat} {Q : JO → JH → Prop} {r0 : Nat} {r1 : Nat} {r2 : Nat} {h : JH} (w : T_X8_finish D d Q r0 r1 r2 h) : cX8_finish D (d + 1) r0 r1 r2 h Q := by
  unfold T_X8_finish at w
  unfold cX8_finish
  exact w_X8_finish_0 w
def W_X8_before_125 (D : JD) (d : Nat) (Q : JO → JH → Prop) (s0 : Int32) (h : JH) : Prop :=
  jbo s0 ∧ (Q (.inl (some (vI s0))) h)
theorem w_X8_before_125 {D : JD} {d : Nat} {Q : JO → JH → Prop} {s0 : Int32} {h : JH} (w : W_X8_before_125 D d Q s0 h) : JW D (d + 1) mX8_before 125 [none, none, none, none, none, none, none, none] [vI s0] h Q := by
  unfold W_X8_before_125 at w
  obtain ⟨g_1, w⟩ := w
  exact jw_ireturn rfl rfl (g_1.nr) w
def W_X8_before_110 (D : JD) (d : Nat) (Q : JO → JH → Prop) (K3 : Nat → Nat → Int32 → Int32 → Int32 → JH → Prop) (r0 : Nat) (r1 : Nat) (x2 : Int32) (x3 : Int32) (x4 : Int32) (x7 : Int32) (h : JH) : Prop :=
  (x7 = 0 → K3 r0 r1 x2 x3 (x4 + (1 : Int32)) h) ∧ (¬ x7 = 0 → (0 ≤ x7 → W_X8_before_125 D d Q (0 : Int32) h) ∧ (¬ 0 ≤ x7 → W_X8_before_125 D d Q (1 : Int32) h))
theorem w_X8_before_110 {D : JD} {d : Nat} {Q : JO → JH → Prop} {K3 : Nat → Nat → Int32 → Int32 → Int32 → JH → Prop} {r0 : Nat} {r1 : Nat} {x2 : Int32} {x3 : Int32} {x4 : Int32} {x7 : Int32} {h : JH} (hK3 : ∀ (r0 : Nat) (r1 : Nat) (x2 : Int32) (x3 : Int32) (x4 : Int32) (h : JH), K3 r0 r1 x2 x3 x4 h → JW D (d + 1) mX8_before 3 [some (vR 41 r0), some (vR 47 r1), some (vI x2), some (vI x3), some (vI x4), none, none, none] [] h Q) (w : W_X8_before_110 D d Q K3 r0 r1 x2 x3 x4 x7 h) : JW D (d + 1) mX8_before 110 [some (vR 41 r0), some (vR 47 r1), some (vI x2), some (vI x3), some (vI x4), none, none, some (vI x7)] [] h Q := by
  unfold W_X8_before_110 at w
  refine jw_iload (pc' := 112) rfl rfl ?_
  refine jw_if_eq (tgt := 126) (pc' := 115) rfl rfl (fun c_1 => ?_) (fun c_1 => ?_)
  · replace w := w.1 c_1
    refine jw_iinc (pc' := 129) (y := x4 + (1 : Int32)) (ls' := [some (vR 41 r0), some (vR 47 r1), some (vI x2), some (vI x3), some (vI (x4 + (1 : Int32))), none, none, some (vI x7)]) rfl (by decide) rfl rfl rfl ?_
    refine jw_goto (pc' := 3) rfl rfl ?_
    refine jw_gen (ls' := [some (vR 41 r0), some (vR 47 r1), some (vI x2), some (vI x3), some (vI (x4 + (1 : Int32))), none, none, none]) (st' := []) (And.intro (Or.inl rfl) (And.intro (Or.inl rfl) (And.intro (Or.inl rfl) (And.intro (Or.inl rfl) (And.intro (Or.inl rfl) (trivial)))))) (trivial) ?_
    exact hK3 _ _ _ _ _ _ w
  · replace w := w.2 c_1
    refine jw_iload (pc' := 117) rfl rfl ?_
    refine jw_if_ge (tgt := 124) (pc' := 120) rfl rfl (fun c_2 => ?_) (fun c_2 => ?_)
    · replace w := w.1 c_2
      refine jw_iconst (pc' := 125) (x := (0 : Int32)) rfl rfl ?_
      refine jw_gen (ls' := [none, none, none, none, none, none, none, none]) (st' := [vI (0 : Int32)]) (trivial) (And.intro (Or.inl rfl) (trivial)) ?_
      exact w_X8_before_125 w
    · replace w := w.2 c_2
      refine jw_iconst (pc' := 121) (x := (1 : Int32)) rfl rfl ?_
      refine jw_goto (pc' := 125) rfl rfl ?_
      refine jw_gen (ls' := [none, none, none, none, none, none, none, none]) (st' := [vI (1 : Int32)]) (trivial) (And.intro (Or.inl rfl) (trivial)) ?_
      exact w_X8_before_125 w
def W_X8_before_93 (D : JD) (d : Nat) (Q : JO → JH → Prop) (K3 : Nat → Nat → Int32 → Int32 → Int32 → JH → Prop) (r0 : Nat) (r1 : Nat) (x2 : Int32) (x3 : Int32) (x4 : Int32) (s0 : Int32) (h : JH) : Prop :=
  r1 ≠ 0 ∧ ((jfr h 295 r1) ≠ 0 ∧ jin x4 (jln h (jfr h 295 r1)) ∧ (((jai h (jfr h 295 r1) (ixn x4)) = 0 → W_X8_before_110 D d Q K3 r0 r1 x2 x3 x4 s0 h) ∧ (¬ (jai h (jfr h 295 r1) (ixn x4)) = 0 → W_X8_before_110 D d Q K3 r0 r1 x2 x3 x4 (-s0) h)))
theorem w_X8_before_93 {D : JD} {d : Nat} {Q : JO → JH → Prop} {K3 : Nat → Nat → Int32 → Int32 → Int32 → JH → Prop} {r0 : Nat} {r1 : Nat} {x2 : Int32} {x3 : Int32} {x4 : Int32} {s0 : Int32} {h : JH} (hK3 : ∀ (r0 : Nat) (r1 : Nat) (x2 : Int32) (x3 : Int32) (x4 : Int32) (h : JH), K3 r0 r1 x2 x3 x4 h → JW D (d + 1) mX8_before 3 [some (vR 41 r0), some (vR 47 r1), some (vI x2), some (vI x3), some (vI x4), none, none, none] [] h Q) (w : W_X8_before_93 D d Q K3 r0 r1 x2 x3 x4 s0 h) : JW D (d + 1) mX8_before 93 [some (vR 41 r0), some (vR 47 r1), some (vI x2), some (vI x3), some (vI x4), none, none, none] [vI s0] h Q := by
  unfold W_X8_before_93 at w
  refine jw_istore (pc' := 95) (ls' := [some (vR 41 r0), some (vR 47 r1), some (vI x2), some (vI x3), some (vI x4), none, none, some (vI s0)]) rfl (by decide) rfl ?_
  refine jw_aload_n (pc' := 96) rfl rfl ?_
  obtain ⟨g_1, w⟩ := w
  refine jw_getR (pc' := 99) (F := 295) (t' := 211) rfl rfl rfl rfl rfl g_1 ?_
  refine jw_iload (pc' := 101) rfl rfl ?_
  obtain ⟨g_2, w⟩ := w
  obtain ⟨g_3, w⟩ := w
  refine jw_zald (pc' := 102) rfl rfl rfl rfl g_2 g_3.ix g_3.2 ?_
  refine jw_if_eq (tgt := 110) (pc' := 105) rfl rfl (fun c_4 => ?_) (fun c_4 => ?_)
  · replace w := w.1 c_4
    exact w_X8_before_110 hK3 w
  · replace w := w.2 c_4
    refine jw_iload (pc' := 107) rfl rfl ?_
    refine jw_ineg (pc' := 108) rfl ?_
    refine jw_istore (pc' := 110) (ls' := [some (vR 41 r0), some (vR 47 r1), some (vI x2), some (vI x3), some (vI x4), none, none, some (vI (-s0))]) rfl (by decide) rfl ?_
    exact w_X8_before_110 hK3 w
def W_X8_before_82 (D : JD) (d : Nat) (Q : JO → JH → Prop) (K3 : Nat → Nat → Int32 → Int32 → Int32 → JH → Prop) (r0 : Nat) (r1 : Nat) (x2 : Int32) (x3 : Int32) (x4 : Int32) (s0 : Int32) (s1 : Int32) (h : JH) : Prop :=
  W_X8_before_93 D d Q K3 r0 r1 x2 x3 x4 (s0 - s1) h
theorem w_X8_before_82 {D : JD} {d : Nat} {Q : JO → JH → Prop} {K3 : Nat → Nat → Int32 → Int32 → Int32 → JH → Prop} {r0 : Nat} {r1 : Nat} {x2 : Int32} {x3 : Int32} {x4 : Int32} {s0 : Int32} {s1 : Int32} {h : JH} (hK3 : ∀ (r0 : Nat) (r1 : Nat) (x2 : Int32) (x3 : Int32) (x4 : Int32) (h : JH), K3 r0 r1 x2 x3 x4 h → JW D (d + 1) mX8_before 3 [some (vR 41 r0), some (vR 47 r1), some (vI x2), some (vI x3), some (vI x4), none, none, none] [] h Q) (w : W_X8_before_82 D d Q K3 r0 r1 x2 x3 x4 s0 s1 h) : JW D (d + 1) mX8_before 82 [some (vR 41 r0), some (vR 47 r1), some (vI x2), some (vI x3), some (vI x4), none, none, none] [vI s1, vI s0] h Q := by
  unfold W_X8_before_82 at w
  refine jw_isub (pc' := 83) rfl ?_
  refine jw_goto (pc' := 93) rfl rfl ?_
  exact w_X8_before_93 hK3 w
def W_X8_before_69 (D : JD) (d : Nat) (Q : JO → JH → Prop) (K3 : Nat → Nat → Int32 → Int32 → Int32 → JH → Prop) (r0 : Nat) (r1 : Nat) (x2 : Int32) (x3 : Int32) (x4 : Int32) (r6 : Nat) (s0 : Int32) (h : JH) : Prop :=
  r6 ≠ 0 ∧ ((¬ (jfi h 266 r6) = 0 → W_X8_before_82 D d Q K3 r0 r1 x2 x3 x4 s0 (0 : Int32) h) ∧ ((jfi h 266 r6) = 0 → W_X8_before_82 D d Q K3 r0 r1 x2 x3 x4 s0 (1 : Int32) h))
theorem w_X8_before_69 {D : JD} {d : Nat} {Q : JO → JH → Prop} {K3 : Nat → Nat → Int32 → Int32 → Int32 → JH → Prop} {r0 : Nat} {r1 : Nat} {x2 : Int32} {x3 : Int32} {x4 : Int32} {r6 : Nat} {s0 : Int32} {h : JH} (hK3 : ∀ (r0 : Nat) (r1 : Nat) (x2 : Int32) (x3 : Int32) (x4 : Int32) (h : JH), K3 r0 r1 x2 x3 x4 h → JW D (d + 1) mX8_before 3 [some (vR 41 r0), some (vR 47 r1), some (vI x2), some (vI x3), some (vI x4), none, none, none] [] h Q) (w : W_X8_before_69 D d Q K3 r0 r1 x2 x3 x4 r6 s0 h) : JW D (d + 1) mX8_before 69 [some (vR 41 r0), some (vR 47 r1), some (vI x2), some (vI x3), some (vI x4), none, some (vR 46 r6), none] [vI s0] h Q := by
  unfold W_X8_before_69 at w
  refine jw_aload (pc' := 71) rfl rfl ?_
  obtain ⟨g_1, w⟩ := w
  refine jw_getI (pc' := 74) (F := 266) rfl rfl rfl rfl g_1 ?_
  refine jw_if_ne (tgt := 81) (pc' := 77) rfl rfl (fun c_2 => ?_) (fun c_2 => ?_)
  · replace w := w.1 c_2
    refine jw_iconst (pc' := 82) (x := (0 : Int32)) rfl rfl ?_
    refine jw_gen (ls' := [some (vR 41 r0), some (vR 47 r1), some (vI x2), some (vI x3), some (vI x4), none, none, none]) (st' := [vI (0 : Int32), vI s0]) (And.intro (Or.inl rfl) (And.intro (Or.inl rfl) (And.intro (Or.inl rfl) (And.intro (Or.inl rfl) (And.intro (Or.inl rfl) (trivial)))))) (And.intro (Or.inl rfl) (And.intro (Or.inl rfl) (trivial))) ?_
    exact w_X8_before_82 hK3 w
  · replace w := w.2 c_2
    refine jw_iconst (pc' := 78) (x := (1 : Int32)) rfl rfl ?_
    refine jw_goto (pc' := 82) rfl rfl ?_
    refine jw_gen (ls' := [some (vR 41 r0), some (vR 47 r1), some (vI x2), some (vI x3), some (vI x4), none, none, none]) (st' := [vI (1 : Int32), vI s0]) (And.intro (Or.inl rfl) (And.intro (Or.inl rfl) (And.intro (Or.inl rfl) (And.intro (Or.inl rfl) (And.intro (Or.inl rfl) (trivial)))))) (And.intro (Or.inl rfl) (And.intro (Or.inl rfl) (trivial))) ?_
    exact w_X8_before_82 hK3 w
def W_X8_before_56 (D : JD) (d : Nat) (Q : JO → JH → Prop) (K3 : Nat → Nat → Int32 → Int32 → Int32 → JH → Prop) (r0 : Nat) (r1 : Nat) (x2 : Int32) (x3 : Int32) (x4 : Int32) (r5 : Nat) (r6 : Nat) (h : JH) : Prop :=
  r5 ≠ 0 ∧ ((¬ (jfi h 266 r5) = 0 → W_X8_before_69 D d Q K3 r0 r1 x2 x3 x4 r6 (0 : Int32) h) ∧ ((jfi h 266 r5) = 0 → W_X8_before_69 D d Q K3 r0 r1 x2 x3 x4 r6 (1 : Int32) h))
theorem w_X8_before_56 {D : JD} {d : Nat} {Q : JO → JH → Prop} {K3 : Nat → Nat → Int32 → Int32 → Int32 → JH → Prop} {r0 : Nat} {r1 : Nat} {x2 : Int32} {x3 : Int32} {x4 : Int32} {r5 : Nat} {r6 : Nat} {h : JH} (hK3 : ∀ (r0 : Nat) (r1 : Nat) (x2 : Int32) (x3 : Int32) (x4 : Int32) (h : JH), K3 r0 r1 x2 x3 x4 h → JW D (d + 1) mX8_before 3 [some (vR 41 r0), some (vR 47 r1), some (vI x2), some (vI x3), some (vI x4), none, none, none] [] h Q) (w : W_X8_before_56 D d Q K3 r0 r1 x2 x3 x4 r5 r6 h) : JW D (d + 1) mX8_before 56 [some (vR 41 r0), some (vR 47 r1), some (vI x2), some (vI x3), some (vI x4), some (vR 46 r5), some (vR 46 r6), none] [] h Q := by
  unfold W_X8_before_56 at w
  refine jw_aload (pc' := 58) rfl rfl ?_
  obtain ⟨g_1, w⟩ := w
  refine jw_getI (pc' := 61) (F := 266) rfl rfl rfl rfl g_1 ?_
  refine jw_if_ne (tgt := 68) (pc' := 64) rfl rfl (fun c_2 => ?_) (fun c_2 => ?_)
  · replace w := w.1 c_2
    refine jw_iconst (pc' := 69) (x := (0 : Int32)) rfl rfl ?_
    refine jw_gen (ls' := [some (vR 41 r0), some (vR 47 r1), some (vI x2), some (vI x3), some (vI x4), none, some (vR 46 r6), none]) (st' := [vI (0 : Int32)]) (And.intro (Or.inl rfl) (And.intro (Or.inl rfl) (And.intro (Or.inl rfl) (And.intro (Or.inl rfl) (And.intro (Or.inl rfl) (And.intro (Or.inl rfl) (trivial))))))) (And.intro (Or.inl rfl) (trivial)) ?_
    exact w_X8_before_69 hK3 w
  · replace w := w.2 c_2
    refine jw_iconst (pc' := 65) (x := (1 : Int32)) rfl rfl ?_
    refine jw_goto (pc' := 69) rfl rfl ?_
    refine jw_gen (ls' := [some (vR 41 r0), some (vR 47 r1), some (vI x2), some (vI x3), some (vI x4), none, some (vR 46 r6), none]) (st' := [vI (1 : Int32)]) (And.intro (Or.inl rfl) (And.intro (Or.inl rfl) (And.intro (Or.inl rfl) (And.intro (Or.inl rfl) (And.intro (Or.inl rfl) (And.intro (Or.inl rfl) (trivial))))))) (And.intro (Or.inl rfl) (trivial)) ?_
    exact w_X8_before_69 hK3 w
def W_X8_before_3 (D : JD) (d : Nat) (Q : JO → JH → Prop) (K3 : Nat → Nat → Int32 → Int32 → Int32 → JH → Prop) (r0 : Nat) (r1 : Nat) (x2 : Int32) (x3 : Int32) (x4 : Int32) (h : JH) : Prop :=
  r1 ≠ 0 ∧ (((jfi h 296 r1) ≤ x4 → Q (.inl (some (vI (0 : Int32)))) h) ∧ (¬ (jfi h 296 r1) ≤ x4 → r0 ≠ 0 ∧ ((jfr h 213 r0) ≠ 0 ∧ jin (((8 : Int32) * x2) + x4) (jln h (jfr h 213 r0)) ∧ (jin (((8 : Int32) * x3) + x4) (jln h (jfr h 213 r0)) ∧ ((jar h (jfr h 213 r0) (ixn (((8 : Int32) * x2) + x4))) ≠ 0 ∧ (((jfi h 266 (jar h (jfr h 213 r0) (ixn (((8 : Int32) * x2) + x4)))) = 0 → W_X8_before_56 D d Q K3 r0 r1 x2 x3 x4 (jar h (jfr h 213 r0) (ixn (((8 : Int32) * x2) + x4))) (jar h (jfr h 213 r0) (ixn (((8 : Int32) * x3) + x4))) h) ∧ (¬ (jfi h 266 (jar h (jfr h 213 r0) (ixn (((8 : Int32) * x2) + x4)))) = 0 → (jar h (jfr h 213 r0) (ixn (((8 : Int32) * x3) + x4))) ≠ 0 ∧ ((¬ (jfi h 266 (jar h (jfr h 213 r0) (ixn (((8 : Int32) * x3) + x4)))) = 0 → cX8_compare D d (jar h (jfr h 213 r0) (ixn (((8 : Int32) * x2) + x4))) (jar h (jfr h 213 r0) (ixn (((8 : Int32) * x3) + x4))) h (pI D h (fun v_13 h_11 => W_X8_before_93 D d Q K3 r0 r1 x2 x3 x4 v_13 h_11) (jth Q))) ∧ ((jfi h 266 (jar h (jfr h 213 r0) (ixn (((8 : Int32) * x3) + x4)))) = 0 → W_X8_before_56 D d Q K3 r0 r1 x2 x3 x4 (jar h (jfr h 213 r0) (ixn (((8 : Int32) * x2) + x4))) (jar h (jfr h 213 r0) (ixn (((8 : Int32) * x3) + x4))) h)))))))))
theorem w_X8_before_3 {D : JD} {d : Nat} {Q : JO → JH → Prop} {K3 : Nat → Nat → Int32 → Int32 → Int32 → JH → Prop} {r0 : Nat} {r1 : Nat} {x2 : Int32} {x3 : Int32} {x4 : Int32} {h : JH} (hK3 : ∀ (r0 : Nat) (r1 : Nat) (x2 : Int32) (x3 : Int32) (x4 : Int32) (h : JH), K3 r0 r1 x2 x3 x4 h → JW D (d + 1) mX8_before 3 [some (vR 41 r0), some (vR 47 r1), some (vI x2), some (vI x3), some (vI x4), none, none, none] [] h Q) (w : W_X8_before_3 D d Q K3 r0 r1 x2 x3 x4 h) : JW D (d + 1) mX8_before 3 [some (vR 41 r0), some (vR 47 r1), some (vI x2), some (vI x3), some (vI x4), none, none, none] [] h Q := by
  unfold W_X8_before_3 at w
  refine jw_iload (pc' := 5) rfl rfl ?_
  refine jw_aload_n (pc' := 6) rfl rfl ?_
  obtain ⟨g_1, w⟩ := w
  refine jw_getI (pc' := 9) (F := 296) rfl rfl rfl rfl g_1 ?_
  refine jw_icmp_ge (tgt := 132) (pc' := 12) rfl rfl (fun c_2 => ?_) (fun c_2 => ?_)
  · replace w := w.1 c_2
    refine jw_iconst (pc' := 133) (x := (0 : Int32)) rfl rfl ?_
    exact jw_ireturn rfl rfl (rfl) w
  · replace w := w.2 c_2
    refine jw_aload_n (pc' := 13) rfl rfl ?_
    obtain ⟨g_3, w⟩ := w
    refine jw_getR (pc' := 16) (F := 213) (t' := 172) rfl rfl rfl rfl rfl g_3 ?_
    refine jw_bipush (pc' := 18) (x := (8 : Int32)) rfl rfl ?_
    refine jw_iload_n (pc' := 19) rfl rfl ?_
    refine jw_imul (pc' := 20) rfl ?_
    refine jw_iload (pc' := 22) rfl rfl ?_
    refine jw_iadd (pc' := 23) rfl ?_
    obtain ⟨g_4, w⟩ := w
    obtain ⟨g_5, w⟩ := w
    refine jw_aald (pc' := 24) (t' := 46) rfl rfl rfl rfl g_4 g_5.ix g_5.2 ?_
    refine jw_astore (pc' := 26) (ls' := [some (vR 41 r0), some (vR 47 r1), some (vI x2), some (vI x3), some (vI x4), some (vR 46 (jar h (jfr h 213 r0) (ixn (((8 : Int32) * x2) + x4)))), none, none]) rfl (by decide) rfl ?_
    refine jw_aload_n (pc' := 27) rfl rfl ?_
    refine jw_getR (pc' := 30) (F := 213) (t' := 172) rfl rfl rfl rfl rfl g_3 ?_
    refine jw_bipush (pc' := 32) (x := (8 : Int32)) rfl rfl ?_
    refine jw_iload_n (pc' := 33) rfl rfl ?_
    refine jw_imul (pc' := 34) rfl ?_
    refine jw_iload (pc' := 36) rfl rfl ?_
    refine jw_iadd (pc' := 37) rfl ?_
    obtain ⟨g_6, w⟩ := w
    refine jw_aald (pc' := 38) (t' := 46) rfl rfl rfl rfl g_4 g_6.ix g_6.2 ?_
    refine jw_astore (pc' := 40) (ls' := [some (vR 41 r0), some (vR 47 r1), some (vI x2), some (vI x3), some (vI x4), some (vR 46 (jar h (jfr h 213 r0) (ixn (((8 : Int32) * x2) + x4)))), some (vR 46 (jar h (jfr h 213 r0) (ixn (((8 : Int32) * x3) + x4)))), none]) rfl (by decide) rfl ?_
    refine jw_aload (pc' := 42) rfl rfl ?_
    obtain ⟨g_7, w⟩ := w
    refine jw_getI (pc' := 45) (F := 266) rfl rfl rfl rfl g_7 ?_
    refine jw_if_eq (tgt := 56) (pc' := 48) rfl rfl (fun c_8 => ?_) (fun c_8 => ?_)
    · replace w := w.1 c_8
      exact w_X8_before_56 hK3 w
    · replace w := w.2 c_8
      refine jw_aload (pc' := 50) rfl rfl ?_
      obtain ⟨g_9, w⟩ := w
      refine jw_getI (pc' := 53) (F := 266) rfl rfl rfl rfl g_9 ?_
      refine jw_if_ne (tgt := 86) (pc' := 56) rfl rfl (fun c_10 => ?_) (fun c_10 => ?_)
      · replace w := w.1 c_10
        refine jw_aload (pc' := 88) rfl rfl ?_
        refine jw_aload (pc' := 90) rfl rfl ?_
        refine jw_cI (st := []) (sa := [vR 46 (jar h (jfr h 213 r0) (ixn (((8 : Int32) * x2) + x4))), vR 46 (jar h (jfr h 213 r0) (ixn (((8 : Int32) * x3) + x4)))]) okX8_compare rfl rfl rfl rfl rfl rfl (jstp_static (sa := [vR 46 (jar h (jfr h 213 r0) (ixn (((8 : Int32) * x2) + x4))), vR 46 (jar h (jfr h 213 r0) (ixn (((8 : Int32) * x3) + x4)))]) (st := []) rfl rfl sX8_compare okX8_compare rfl rfl) w (fun v_13 h_11 _ _ w => ?_)
        refine jw_gen (ls' := [some (vR 41 r0), some (vR 47 r1), some (vI x2), some (vI x3), some (vI x4), none, none, none]) (st' := [vI v_13]) (And.intro (Or.inl rfl) (And.intro (Or.inl rfl) (And.intro (Or.inl rfl) (And.intro (Or.inl rfl) (And.intro (Or.inl rfl) (trivial)))))) (And.intro (Or.inl rfl) (trivial)) ?_
        exact w_X8_before_93 hK3 w
      · replace w := w.2 c_10
        exact w_X8_before_56 hK3 w
def L_X8_before_3 (D : JD) (d : Nat) (Q : JO → JH → Prop) : Nat → Nat → Nat → Int32 → Int32 → Int32 → JH → Prop
  | 0 => fun _ _ _ _ _ _ => False
  | n + 1 => fun r0 r1 x2 x3 x4 h => W_X8_before_3 D d Q (L_X8_before_3 D d Q n) r0 r1 x2 x3 x4 h
theorem l_X8_before_3 {D : JD} {d : Nat} {Q : JO → JH → Prop} : ∀ (n : Nat) (r0 : Nat) (r1 : Nat) (x2 : Int32) (x3 : Int32) (x4 : Int32) (h : JH), L_X8_before_3 D d Q n r0 r1 x2 x3 x4 h → JW D (d + 1) mX8_before 3 [some (vR 41 r0), some (vR 47 r1), some (vI x2), some (vI x3), some (vI x4), none, none, none] [] h Q := by
  intro n
  induction n with
  | zero => intro _ _ _ _ _ _ w; exact w.elim
  | succ n ih => intro _ _ _ _ _ h w; exact w_X8_before_3 ih w
def W_X8_before_0 (D : JD) (d : Nat) (Q : JO → JH → Prop) (r0 : Nat) (r1 : Nat) (x2 : Int32) (x3 : Int32) (h : JH) : Prop :=
  ∃ n, L_X8_before_3 D d Q n r0 r1 x2 x3 (0 : Int32) h
theorem w_X8_before_0 {D : JD} {d : Nat} {Q : JO → JH → Prop} {r0 : Nat} {r1 : Nat} {x2 : Int32} {x3 : Int32} {h : JH} (w : W_X8_before_0 D d Q r0 r1 x2 x3 h) : JW D (d + 1) mX8_before 0 [some (vR 41 r0), some (vR 47 r1), some (vI x2), some (vI x3), none, none, none, none] [] h Q := by
  unfold W_X8_before_0 at w
  refine jw_iconst (pc' := 1) (x := (0 : Int32)) rfl rfl ?_
  refine jw_istore (pc' := 3) (ls' := [some (vR 41 r0), some (vR 47 r1), some (vI x2), some (vI x3), some (vI (0 : Int32)), none, none, none]) rfl (by decide) rfl ?_
  obtain ⟨n, w⟩ := w
  exact l_X8_before_3 n _ _ _ _ _ _ w
def T_X8_before (D : JD) (d : Nat) (Q : JO → JH → Prop) (r0 : Nat) (r1 : Nat) (x2 : Int32) (x3 : Int32) (h : JH) : Prop := W_X8_before_0 D d Q r0 r1 x2 x3 h
theorem t_X8_before {D : JD} {d : Nat} {Q : JO → JH → Prop} {r0 : Nat} {r1 : Nat} {x2 : Int32} {x3 : Int32} {h : JH} (w : T_X8_before D d Q r0 r1 x2 x3 h) : cX8_before D (d + 1) r0 r1 x2 x3 h Q := by
  unfold T_X8_before at w
  unfold cX8_before
  exact w_X8_before_0 w
def W_X8_size_47 (D : JD) (d : Nat) (Q : JO → JH → Prop) (s0 : Int32) (h : JH) : Prop :=
  Q (.inl (some (vI s0))) h
theorem w_X8_size_47 {D : JD} {d : Nat} {Q : JO → JH → Prop} {s0 : Int32} {h : JH} (w : W_X8_size_47 D d Q s0 h) : JW D (d + 1) mX8_size 47 [none] [vI s0] h Q := by
  unfold W_X8_size_47 at w
  exact jw_ireturn rfl rfl (rfl) w
def W_X8_size_0 (D : JD) (d : Nat) (Q : JO → JH → Prop) (r0 : Nat) (h : JH) : Prop :=
  r0 ≠ 0 ∧ ((¬ (jfi h 266 r0) = 0 → (¬ (jfi h 266 r0) = (20 : Int32) → (¬ (jfi h 266 r0) = (16 : Int32) → W_X8_size_47 D d Q (jfi h 268 r0) h) ∧ ((jfi h 266 r0) = (16 : Int32) → W_X8_size_47 D d Q (1 : Int32) h)) ∧ ((jfi h 266 r0) = (20 : Int32) → cX8_digits D d (jfl h 267 r0) h (pI D h (fun v_7 h_5 => W_X8_size_47 D d Q v_7 h_5) (jth Q)))) ∧ ((jfi h 266 r0) = 0 → W_X8_size_47 D d Q (0 : Int32) h))
theorem w_X8_size_0 {D : JD} {d : Nat} {Q : JO → JH → Prop} {r0 : Nat} {h : JH} (w : W_X8_size_0 D d Q r0 h) : JW D (d + 1) mX8_size 0 [some (vR 46 r0)] [] h Q := by
  unfold W_X8_size_0 at w
  refine jw_aload_n (pc' := 1) rfl rfl ?_
  obtain ⟨g_1, w⟩ := w
  refine jw_getI (pc' := 4) (F := 266) rfl rfl rfl rfl g_1 ?_
  refine jw_if_ne (tgt := 11) (pc' := 7) rfl rfl (fun c_2 => ?_) (fun c_2 => ?_)
  · replace w := w.1 c_2
    refine jw_aload_n (pc' := 12) rfl rfl ?_
    refine jw_getI (pc' := 15) (F := 266) rfl rfl rfl rfl g_1 ?_
    refine jw_bipush (pc' := 17) (x := (20 : Int32)) rfl rfl ?_
    refine jw_icmp_ne (tgt := 30) (pc' := 20) rfl rfl (fun c_3 => ?_) (fun c_3 => ?_)
    · replace w := w.1 c_3
      refine jw_aload_n (pc' := 31) rfl rfl ?_
      refine jw_getI (pc' := 34) (F := 266) rfl rfl rfl rfl g_1 ?_
      refine jw_bipush (pc' := 36) (x := (16 : Int32)) rfl rfl ?_
      refine jw_icmp_ne (tgt := 43) (pc' := 39) rfl rfl (fun c_4 => ?_) (fun c_4 => ?_)
      · replace w := w.1 c_4
        refine jw_aload_n (pc' := 44) rfl rfl ?_
        refine jw_getI (pc' := 47) (F := 268) rfl rfl rfl rfl g_1 ?_
        refine jw_gen (ls' := [none]) (st' := [vI (jfi h 268 r0)]) (trivial) (And.intro (Or.inl rfl) (trivial)) ?_
        exact w_X8_size_47 w
      · replace w := w.2 c_4
        refine jw_iconst (pc' := 40) (x := (1 : Int32)) rfl rfl ?_
        refine jw_goto (pc' := 47) rfl rfl ?_
        refine jw_gen (ls' := [none]) (st' := [vI (1 : Int32)]) (trivial) (And.intro (Or.inl rfl) (trivial)) ?_
        exact w_X8_size_47 w
    · replace w := w.2 c_3
      refine jw_aload_n (pc' := 21) rfl rfl ?_
      refine jw_getL (pc' := 24) (F := 267) rfl rfl rfl rfl g_1 ?_
      refine jw_cI (st := []) (sa := [vL (jfl h 267 r0)]) okX8_digits rfl rfl rfl rfl rfl rfl (jstp_static (sa := [vL (jfl h 267 r0)]) (st := []) rfl rfl sX8_digits okX8_digits rfl rfl) w (fun v_7 h_5 _ _ w => ?_)
      refine jw_goto (pc' := 47) rfl rfl ?_
      refine jw_gen (ls' := [none]) (st' := [vI v_7]) (trivial) (And.intro (Or.inl rfl) (trivial)) ?_
      exact w_X8_size_47 w
  · replace w := w.2 c_2
    refine jw_iconst (pc' := 8) (x := (0 : Int32)) rfl rfl ?_
    refine jw_goto (pc' := 47) rfl rfl ?_
    refine jw_gen (ls' := [none]) (st' := [vI (0 : Int32)]) (trivial) (And.intro (Or.inl rfl) (trivial)) ?_
    exact w_X8_size_47 w
def T_X8_size (D : JD) (d : Nat) (Q : JO → JH → Prop) (r0 : Nat) (h : JH) : Prop := W_X8_size_0 D d Q r0 h
theorem t_X8_size {D : JD} {d : Nat} {Q : JO → JH → Prop} {r0 : Nat} {h : JH} (w : T_X8_size D d Q r0 h) : cX8_size D (d + 1) r0 h Q := by
  unfold T_X8_size at w
  unfold cX8_size
  exact w_X8_size_0 w
def W_X8_digits_18 (D : JD) (d : Nat) (Q : JO → JH → Prop) (K18 : Int32 → Int64 → JH → Prop) (x2 : Int32) (y3 : Int64) (h : JH) : Prop :=
  ((lg_cmp y3 (0 : Int64)) = 0 → Q (.inl (some (vI x2))) h) ∧ (¬ (lg_cmp y3 (0 : Int64)) = 0 → K18 (x2 + (1 : Int32)) (y3 / (10 : Int64)) h)
theorem w_X8_digits_18 {D : JD} {d : Nat} {Q : JO → JH → Prop} {K18 : Int32 → Int64 → JH → Prop} {x2 : Int32} {y3 : Int64} {h : JH} (hK18 : ∀ (x2 : Int32) (y3 : Int64) (h : JH), K18 x2 y3 h → JW D (d + 1) mX8_digits 18 [none, none, some (vI x2), some (vL y3), none] [] h Q) (w : W_X8_digits_18 D d Q K18 x2 y3 h) : JW D (d + 1) mX8_digits 18 [none, none, some (vI x2), some (vL y3), none] [] h Q := by
  unfold W_X8_digits_18 at w
  refine jw_lload_n (pc' := 19) rfl rfl ?_
  refine jw_lconst (pc' := 20) (x := (0 : Int64)) rfl rfl ?_
  refine jw_lcmp (pc' := 21) rfl ?_
  refine jw_if_eq (tgt := 36) (pc' := 24) rfl rfl (fun c_1 => ?_) (fun c_1 => ?_)
  · replace w := w.1 c_1
    refine jw_iload_n (pc' := 37) rfl rfl ?_
    exact jw_ireturn rfl rfl (rfl) w
  · replace w := w.2 c_1
    refine jw_iinc (pc' := 27) (y := x2 + (1 : Int32)) (ls' := [none, none, some (vI (x2 + (1 : Int32))), some (vL y3), none]) rfl (by decide) rfl rfl rfl ?_
    refine jw_lload_n (pc' := 28) rfl rfl ?_
    refine jw_ldc2 (pc' := 31) (v := (10 : Int64)) rfl rfl ?_
    refine jw_ldiv (pc' := 32) rfl (by decide) ?_
    refine jw_lstore_n (pc' := 33) (ls' := [none, none, some (vI (x2 + (1 : Int32))), some (vL (y3 / (10 : Int64))), none]) rfl (by decide) rfl ?_
    refine jw_goto (pc' := 18) rfl rfl ?_
    exact hK18 _ _ _ w
def L_X8_digits_18 (D : JD) (d : Nat) (Q : JO → JH → Prop) : Nat → Int32 → Int64 → JH → Prop
  | 0 => fun _ _ _ => False
  | n + 1 => fun x2 y3 h => W_X8_digits_18 D d Q (L_X8_digits_18 D d Q n) x2 y3 h
theorem l_X8_digits_18 {D : JD} {d : Nat} {Q : JO → JH → Prop} : ∀ (n : Nat) (x2 : Int32) (y3 : Int64) (h : JH), L_X8_digits_18 D d Q n x2 y3 h → JW D (d + 1) mX8_digits 18 [none, none, some (vI x2), some (vL y3), none] [] h Q := by
  intro n
  induction n with
  | zero => intro _ _ _ w; exact w.elim
  | succ n ih => intro _ _ h w; exact w_X8_digits_18 ih w
def W_X8_digits_11 (D : JD) (d : Nat) (Q : JO → JH → Prop) (y0 : Int64) (s0 : Int32) (h : JH) : Prop :=
  ∃ n, L_X8_digits_18 D d Q n s0 (y0 / (10 : Int64)) h
theorem w_X8_digits_11 {D : JD} {d : Nat} {Q : JO → JH → Prop} {y0 : Int64} {s0 : Int32} {h : JH} (w : W_X8_digits_11 D d Q y0 s0 h) : JW D (d + 1) mX8_digits 11 [some (vL y0), none, none, none, none] [vI s0] h Q := by
  unfold W_X8_digits_11 at w
  refine jw_istore_n (pc' := 12) (ls' := [some (vL y0), none, some (vI s0), none, none]) rfl (by decide) rfl ?_
  refine jw_lload_n (pc' := 13) rfl rfl ?_
  refine jw_ldc2 (pc' := 16) (v := (10 : Int64)) rfl rfl ?_
  refine jw_ldiv (pc' := 17) rfl (by decide) ?_
  refine jw_lstore_n (pc' := 18) (ls' := [some (vL y0), none, some (vI s0), some (vL (y0 / (10 : Int64))), none]) rfl (by decide) rfl ?_
  refine jw_gen (ls' := [none, none, some (vI s0), some (vL (y0 / (10 : Int64))), none]) (st' := []) (And.intro (Or.inl rfl) (And.intro (Or.inl rfl) (trivial))) (trivial) ?_
  obtain ⟨n, w⟩ := w
  exact l_X8_digits_18 n _ _ _ w
def W_X8_digits_0 (D : JD) (d : Nat) (Q : JO → JH → Prop) (y0 : Int64) (h : JH) : Prop :=
  (0 ≤ (lg_cmp y0 (0 : Int64)) → W_X8_digits_11 D d Q y0 (1 : Int32) h) ∧ (¬ 0 ≤ (lg_cmp y0 (0 : Int64)) → W_X8_digits_11 D d Q y0 (2 : Int32) h)
theorem w_X8_digits_0 {D : JD} {d : Nat} {Q : JO → JH → Prop} {y0 : Int64} {h : JH} (w : W_X8_digits_0 D d Q y0 h) : JW D (d + 1) mX8_digits 0 [some (vL y0), none, none, none, none] [] h Q := by
  unfold W_X8_digits_0 at w
  refine jw_lload_n (pc' := 1) rfl rfl ?_
  refine jw_lconst (pc' := 2) (x := (0 : Int64)) rfl rfl ?_
  refine jw_lcmp (pc' := 3) rfl ?_
  refine jw_if_ge (tgt := 10) (pc' := 6) rfl rfl (fun c_1 => ?_) (fun c_1 => ?_)
  · replace w := w.1 c_1
    refine jw_iconst (pc' := 11) (x := (1 : Int32)) rfl rfl ?_
    exact w_X8_digits_11 w
  · replace w := w.2 c_1
    refine jw_iconst (pc' := 7) (x := (2 : Int32)) rfl rfl ?_
    refine jw_goto (pc' := 11) rfl rfl ?_
    exact w_X8_digits_11 w
def T_X8_digits (D : JD) (d : Nat) (Q : JO → JH → Prop) (y0 : Int64) (h : JH) : Prop := W_X8_digits_0 D d Q y0 h
theorem t_X8_digits {D : JD} {d : Nat} {Q : JO → JH → Prop} {y0 : Int64} {h : JH} (w : T_X8_digits D d Q y0 h) : cX8_digits D (d + 1) y0 h Q := by
  unfold T_X8_digits at w
  unfold cX8_digits
  exact w_X8_digits_0 w
def W_X8_columns_99 (D : JD) (d : Nat) (Q : JO → JH → Prop) (K16 : Nat → Nat → Int32 → JH → Prop) (r0 : Nat) (r1 : Nat) (x2 : Int32) (q0 : Nat) (s1 : Int32) (h : JH) : Prop :=
  q0 ≠ 0 ∧ (cX8_say2 D d q0 s1 h (pV D h (fun h_2 => r0 ≠ 0 ∧ (cX8_say4 D d r0 (-1 : Int32) h_2 (pV D h_2 (fun h_6 => cX8_say2 D d r0 (0 : Int32) h_6 (pV D h_6 (fun h_9 => K16 r0 r1 (x2 + (1 : Int32)) h_9) (jth Q))) (jth Q)))) (jth Q)))
theorem w_X8_columns_99 {D : JD} {d : Nat} {Q : JO → JH → Prop} {K16 : Nat → Nat → Int32 → JH → Prop} {r0 : Nat} {r1 : Nat} {x2 : Int32} {q0 : Nat} {s1 : Int32} {h : JH} (hK16 : ∀ (r0 : Nat) (r1 : Nat) (x2 : Int32) (h : JH), K16 r0 r1 x2 h → JW D (d + 1) mX8_columns 16 [some (vR 41 r0), some (vR 47 r1), some (vI x2), none] [] h Q) (w : W_X8_columns_99 D d Q K16 r0 r1 x2 q0 s1 h) : JW D (d + 1) mX8_columns 99 [some (vR 41 r0), some (vR 47 r1), some (vI x2), none] [vI s1, vR 41 q0] h Q := by
  unfold W_X8_columns_99 at w
  obtain ⟨g_1, w⟩ := w
  refine jw_cV (st := []) (sa := [vR 41 q0, vI s1]) okX8_say2 rfl rfl rfl rfl rfl rfl (jstp_virtual (sa := [vI s1]) (st := []) (k := 0) rfl rfl sX8_say2 okX8_say2 g_1 (one41.k g_1) rfl rfl) w (fun h_2 _ _ w => ?_)
  refine jw_aload_n (pc' := 103) rfl rfl ?_
  refine jw_iconst (pc' := 104) (x := (-1 : Int32)) rfl rfl ?_
  obtain ⟨g_5, w⟩ := w
  refine jw_cV (st := []) (sa := [vR 41 r0, vI (-1 : Int32)]) okX8_say4 rfl rfl rfl rfl rfl rfl (jstp_virtual (sa := [vI (-1 : Int32)]) (st := []) (k := 0) rfl rfl sX8_say4 okX8_say4 g_5 (one41.k g_5) rfl rfl) w (fun h_6 _ _ w => ?_)
  refine jw_aload_n (pc' := 108) rfl rfl ?_
  refine jw_iconst (pc' := 109) (x := (0 : Int32)) rfl rfl ?_
  refine jw_cV (st := []) (sa := [vR 41 r0, vI (0 : Int32)]) okX8_say2 rfl rfl rfl rfl rfl rfl (jstp_virtual (sa := [vI (0 : Int32)]) (st := []) (k := 0) rfl rfl sX8_say2 okX8_say2 g_5 (one41.k g_5) rfl rfl) w (fun h_9 _ _ w => ?_)
  refine jw_iinc (pc' := 115) (y := x2 + (1 : Int32)) (ls' := [some (vR 41 r0), some (vR 47 r1), some (vI (x2 + (1 : Int32))), none]) rfl (by decide) rfl rfl rfl ?_
  refine jw_goto (pc' := 16) rfl rfl ?_
  exact hK16 _ _ _ _ w
def W_X8_columns_50 (D : JD) (d : Nat) (Q : JO → JH → Prop) (K16 : Nat → Nat → Int32 → JH → Prop) (r0 : Nat) (r1 : Nat) (x2 : Int32) (s0 : Int32) (h : JH) : Prop :=
  r1 ≠ 0 ∧ ((jfr h 301 r1) ≠ 0 ∧ jin x2 (jln h (jfr h 301 r1)) ∧ (r0 ≠ 0 ∧ (cX8_words D d r0 (jar h (jfr h 301 r1) (ixn x2)) h (pV D h (fun h_5 => cX8_say4 D d r0 (0 : Int32) h_5 (pV D h_5 (fun h_8 => cX8_say2 D d r0 (0 : Int32) h_8 (pV D h_8 (fun h_11 => cX8_say4 D d r0 s0 h_11 (pV D h_11 (fun h_14 => (¬ s0 = (16 : Int32) → (¬ s0 = (20 : Int32) → W_X8_columns_99 D d Q K16 r0 r1 x2 r0 (-1 : Int32) h_14) ∧ (s0 = (20 : Int32) → W_X8_columns_99 D d Q K16 r0 r1 x2 r0 (8 : Int32) h_14)) ∧ (s0 = (16 : Int32) → W_X8_columns_99 D d Q K16 r0 r1 x2 r0 (1 : Int32) h_14)) (jth Q))) (jth Q))) (jth Q))) (jth Q)))))
theorem w_X8_columns_50 {D : JD} {d : Nat} {Q : JO → JH → Prop} {K16 : Nat → Nat → Int32 → JH → Prop} {r0 : Nat} {r1 : Nat} {x2 : Int32} {s0 : Int32} {h : JH} (hK16 : ∀ (r0 : Nat) (r1 : Nat) (x2 : Int32) (h : JH), K16 r0 r1 x2 h → JW D (d + 1) mX8_columns 16 [some (vR 41 r0), some (vR 47 r1), some (vI x2), none] [] h Q) (w : W_X8_columns_50 D d Q K16 r0 r1 x2 s0 h) : JW D (d + 1) mX8_columns 50 [some (vR 41 r0), some (vR 47 r1), some (vI x2), none] [vI s0] h Q := by
  unfold W_X8_columns_50 at w
  refine jw_istore_n (pc' := 51) (ls' := [some (vR 41 r0), some (vR 47 r1), some (vI x2), some (vI s0)]) rfl (by decide) rfl ?_
  refine jw_aload_n (pc' := 52) rfl rfl ?_
  refine jw_aload_n (pc' := 53) rfl rfl ?_
  obtain ⟨g_1, w⟩ := w
  refine jw_getR (pc' := 56) (F := 301) (t' := 213) rfl rfl rfl rfl rfl g_1 ?_
  refine jw_iload_n (pc' := 57) rfl rfl ?_
  obtain ⟨g_2, w⟩ := w
  obtain ⟨g_3, w⟩ := w
  refine jw_aald (pc' := 58) (t' := 64) rfl rfl rfl rfl g_2 g_3.ix g_3.2 ?_
  obtain ⟨g_4, w⟩ := w
  refine jw_cV (st := []) (sa := [vR 41 r0, vR 64 (jar h (jfr h 301 r1) (ixn x2))]) okX8_words rfl rfl rfl rfl rfl rfl (jstp_virtual (sa := [vR 64 (jar h (jfr h 301 r1) (ixn x2))]) (st := []) (k := 0) rfl rfl sX8_words okX8_words g_4 (one41.k g_4) rfl rfl) w (fun h_5 _ _ w => ?_)
  refine jw_aload_n (pc' := 62) rfl rfl ?_
  refine jw_iconst (pc' := 63) (x := (0 : Int32)) rfl rfl ?_
  refine jw_cV (st := []) (sa := [vR 41 r0, vI (0 : Int32)]) okX8_say4 rfl rfl rfl rfl rfl rfl (jstp_virtual (sa := [vI (0 : Int32)]) (st := []) (k := 0) rfl rfl sX8_say4 okX8_say4 g_4 (one41.k g_4) rfl rfl) w (fun h_8 _ _ w => ?_)
  refine jw_aload_n (pc' := 67) rfl rfl ?_
  refine jw_iconst (pc' := 68) (x := (0 : Int32)) rfl rfl ?_
  refine jw_cV (st := []) (sa := [vR 41 r0, vI (0 : Int32)]) okX8_say2 rfl rfl rfl rfl rfl rfl (jstp_virtual (sa := [vI (0 : Int32)]) (st := []) (k := 0) rfl rfl sX8_say2 okX8_say2 g_4 (one41.k g_4) rfl rfl) w (fun h_11 _ _ w => ?_)
  refine jw_aload_n (pc' := 72) rfl rfl ?_
  refine jw_iload_n (pc' := 73) rfl rfl ?_
  refine jw_cV (st := []) (sa := [vR 41 r0, vI s0]) okX8_say4 rfl rfl rfl rfl rfl rfl (jstp_virtual (sa := [vI s0]) (st := []) (k := 0) rfl rfl sX8_say4 okX8_say4 g_4 (one41.k g_4) rfl rfl) w (fun h_14 _ _ w => ?_)
  refine jw_aload_n (pc' := 77) rfl rfl ?_
  refine jw_iload_n (pc' := 78) rfl rfl ?_
  refine jw_bipush (pc' := 80) (x := (16 : Int32)) rfl rfl ?_
  refine jw_icmp_ne (tgt := 87) (pc' := 83) rfl rfl (fun c_17 => ?_) (fun c_17 => ?_)
  · replace w := w.1 c_17
    refine jw_iload_n (pc' := 88) rfl rfl ?_
    refine jw_bipush (pc' := 90) (x := (20 : Int32)) rfl rfl ?_
    refine jw_icmp_ne (tgt := 98) (pc' := 93) rfl rfl (fun c_18 => ?_) (fun c_18 => ?_)
    · replace w := w.1 c_18
      refine jw_iconst (pc' := 99) (x := (-1 : Int32)) rfl rfl ?_
      refine jw_gen (ls' := [some (vR 41 r0), some (vR 47 r1), some (vI x2), none]) (st' := [vI (-1 : Int32), vR 41 r0]) (And.intro (Or.inl rfl) (And.intro (Or.inl rfl) (And.intro (Or.inl rfl) (trivial)))) (And.intro (Or.inl rfl) (And.intro (Or.inl rfl) (trivial))) ?_
      exact w_X8_columns_99 hK16 w
    · replace w := w.2 c_18
      refine jw_bipush (pc' := 95) (x := (8 : Int32)) rfl rfl ?_
      refine jw_goto (pc' := 99) rfl rfl ?_
      refine jw_gen (ls' := [some (vR 41 r0), some (vR 47 r1), some (vI x2), none]) (st' := [vI (8 : Int32), vR 41 r0]) (And.intro (Or.inl rfl) (And.intro (Or.inl rfl) (And.intro (Or.inl rfl) (trivial)))) (And.intro (Or.inl rfl) (And.intro (Or.inl rfl) (trivial))) ?_
      exact w_X8_columns_99 hK16 w
  · replace w := w.2 c_17
    refine jw_iconst (pc' := 84) (x := (1 : Int32)) rfl rfl ?_
    refine jw_goto (pc' := 99) rfl rfl ?_
    refine jw_gen (ls' := [some (vR 41 r0), some (vR 47 r1), some (vI x2), none]) (st' := [vI (1 : Int32), vR 41 r0]) (And.intro (Or.inl rfl) (And.intro (Or.inl rfl) (And.intro (Or.inl rfl) (trivial)))) (And.intro (Or.inl rfl) (And.intro (Or.inl rfl) (trivial))) ?_
    exact w_X8_columns_99 hK16 w
def W_X8_columns_16 (D : JD) (d : Nat) (Q : JO → JH → Prop) (K16 : Nat → Nat → Int32 → JH → Prop) (r0 : Nat) (r1 : Nat) (x2 : Int32) (h : JH) : Prop :=
  r1 ≠ 0 ∧ (((jfi h 302 r1) ≤ x2 → r0 ≠ 0 ∧ (cX8_close D d r0 h (pV D h (fun h_4 => Q (.inl none) h_4) (jth Q)))) ∧ (¬ (jfi h 302 r1) ≤ x2 → (jfr h 300 r1) ≠ 0 ∧ jin x2 (jln h (jfr h 300 r1)) ∧ ((jar h (jfr h 300 r1) (ixn x2)) ≠ 0 ∧ ((¬ (jfi h 312 (jar h (jfr h 300 r1) (ixn x2))) = 0 → jin x2 (jln h (jfr h 300 r1)) ∧ (W_X8_columns_50 D d Q K16 r0 r1 x2 (jfi h 312 (jar h (jfr h 300 r1) (ixn x2))) h)) ∧ ((jfi h 312 (jar h (jfr h 300 r1) (ixn x2))) = 0 → W_X8_columns_50 D d Q K16 r0 r1 x2 (25 : Int32) h)))))
theorem w_X8_columns_16 {D : JD} {d : Nat} {Q : JO → JH → Prop} {K16 : Nat → Nat → Int32 → JH → Prop} {r0 : Nat} {r1 : Nat} {x2 : Int32} {h : JH} (hK16 : ∀ (r0 : Nat) (r1 : Nat) (x2 : Int32) (h : JH), K16 r0 r1 x2 h → JW D (d + 1) mX8_columns 16 [some (vR 41 r0), some (vR 47 r1), some (vI x2), none] [] h Q) (w : W_X8_columns_16 D d Q K16 r0 r1 x2 h) : JW D (d + 1) mX8_columns 16 [some (vR 41 r0), some (vR 47 r1), some (vI x2), none] [] h Q := by
  unfold W_X8_columns_16 at w
  refine jw_iload_n (pc' := 17) rfl rfl ?_
  refine jw_aload_n (pc' := 18) rfl rfl ?_
  obtain ⟨g_1, w⟩ := w
  refine jw_getI (pc' := 21) (F := 302) rfl rfl rfl rfl g_1 ?_
  refine jw_icmp_ge (tgt := 118) (pc' := 24) rfl rfl (fun c_2 => ?_) (fun c_2 => ?_)
  · replace w := w.1 c_2
    refine jw_aload_n (pc' := 119) rfl rfl ?_
    obtain ⟨g_3, w⟩ := w
    refine jw_cV (st := []) (sa := [vR 41 r0]) okX8_close rfl rfl rfl rfl rfl rfl (jstp_virtual (sa := []) (st := []) (k := 0) rfl rfl sX8_close okX8_close g_3 (one41.k g_3) rfl rfl) w (fun h_4 _ _ w => ?_)
    exact jw_return rfl rfl w
  · replace w := w.2 c_2
    refine jw_aload_n (pc' := 25) rfl rfl ?_
    refine jw_getR (pc' := 28) (F := 300) (t' := 212) rfl rfl rfl rfl rfl g_1 ?_
    refine jw_iload_n (pc' := 29) rfl rfl ?_
    obtain ⟨g_7, w⟩ := w
    obtain ⟨g_8, w⟩ := w
    refine jw_aald (pc' := 30) (t' := 48) rfl rfl rfl rfl g_7 g_8.ix g_8.2 ?_
    obtain ⟨g_9, w⟩ := w
    refine jw_getI (pc' := 33) (F := 312) rfl rfl rfl rfl g_9 ?_
    refine jw_if_ne (tgt := 41) (pc' := 36) rfl rfl (fun c_10 => ?_) (fun c_10 => ?_)
    · replace w := w.1 c_10
      refine jw_aload_n (pc' := 42) rfl rfl ?_
      refine jw_getR (pc' := 45) (F := 300) (t' := 212) rfl rfl rfl rfl rfl g_1 ?_
      refine jw_iload_n (pc' := 46) rfl rfl ?_
      obtain ⟨g_11, w⟩ := w
      refine jw_aald (pc' := 47) (t' := 48) rfl rfl rfl rfl g_7 g_11.ix g_11.2 ?_
      refine jw_getI (pc' := 50) (F := 312) rfl rfl rfl rfl g_9 ?_
      exact w_X8_columns_50 hK16 w
    · replace w := w.2 c_10
      refine jw_bipush (pc' := 38) (x := (25 : Int32)) rfl rfl ?_
      refine jw_goto (pc' := 50) rfl rfl ?_
      exact w_X8_columns_50 hK16 w
def L_X8_columns_16 (D : JD) (d : Nat) (Q : JO → JH → Prop) : Nat → Nat → Nat → Int32 → JH → Prop
  | 0 => fun _ _ _ _ => False
  | n + 1 => fun r0 r1 x2 h => W_X8_columns_16 D d Q (L_X8_columns_16 D d Q n) r0 r1 x2 h
theorem l_X8_columns_16 {D : JD} {d : Nat} {Q : JO → JH → Prop} : ∀ (n : Nat) (r0 : Nat) (r1 : Nat) (x2 : Int32) (h : JH), L_X8_columns_16 D d Q n r0 r1 x2 h → JW D (d + 1) mX8_columns 16 [some (vR 41 r0), some (vR 47 r1), some (vI x2), none] [] h Q := by
  intro n
  induction n with
  | zero => intro _ _ _ _ w; exact w.elim
  | succ n ih => intro _ _ _ h w; exact w_X8_columns_16 ih w
def W_X8_columns_0 (D : JD) (d : Nat) (Q : JO → JH → Prop) (r0 : Nat) (r1 : Nat) (h : JH) : Prop :=
  r0 ≠ 0 ∧ (cX8_begin D d r0 (84 : Int32) h (pV D h (fun h_2 => r1 ≠ 0 ∧ (cX8_say2 D d r0 (jfi h_2 302 r1) h_2 (pV D h_2 (fun h_6 => ∃ n, L_X8_columns_16 D d Q n r0 r1 (0 : Int32) h_6) (jth Q)))) (jth Q)))
theorem w_X8_columns_0 {D : JD} {d : Nat} {Q : JO → JH → Prop} {r0 : Nat} {r1 : Nat} {h : JH} (w : W_X8_columns_0 D d Q r0 r1 h) : JW D (d + 1) mX8_columns 0 [some (vR 41 r0), some (vR 47 r1), none, none] [] h Q := by
  unfold W_X8_columns_0 at w
  refine jw_aload_n (pc' := 1) rfl rfl ?_
  refine jw_bipush (pc' := 3) (x := (84 : Int32)) rfl rfl ?_
  obtain ⟨g_1, w⟩ := w
  refine jw_cV (st := []) (sa := [vR 41 r0, vI (84 : Int32)]) okX8_begin rfl rfl rfl rfl rfl rfl (jstp_virtual (sa := [vI (84 : Int32)]) (st := []) (k := 0) rfl rfl sX8_begin okX8_begin g_1 (one41.k g_1) rfl rfl) w (fun h_2 _ _ w => ?_)
  refine jw_aload_n (pc' := 7) rfl rfl ?_
  refine jw_aload_n (pc' := 8) rfl rfl ?_
  obtain ⟨g_5, w⟩ := w
  refine jw_getI (pc' := 11) (F := 302) rfl rfl rfl rfl g_5 ?_
  refine jw_cV (st := []) (sa := [vR 41 r0, vI (jfi h_2 302 r1)]) okX8_say2 rfl rfl rfl rfl rfl rfl (jstp_virtual (sa := [vI (jfi h_2 302 r1)]) (st := []) (k := 0) rfl rfl sX8_say2 okX8_say2 g_1 (one41.k g_1) rfl rfl) w (fun h_6 _ _ w => ?_)
  refine jw_iconst (pc' := 15) (x := (0 : Int32)) rfl rfl ?_
  refine jw_istore_n (pc' := 16) (ls' := [some (vR 41 r0), some (vR 47 r1), some (vI (0 : Int32)), none]) rfl (by decide) rfl ?_
  obtain ⟨n, w⟩ := w
  exact l_X8_columns_16 n _ _ _ _ w
def T_X8_columns (D : JD) (d : Nat) (Q : JO → JH → Prop) (r0 : Nat) (r1 : Nat) (h : JH) : Prop := W_X8_columns_0 D d Q r0 r1 h
theorem t_X8_columns {D : JD} {d : Nat} {Q : JO → JH → Prop} {r0 : Nat} {r1 : Nat} {h : JH} (w : T_X8_columns D d Q r0 r1 h) : cX8_columns D (d + 1) r0 r1 h Q := by
  unfold T_X8_columns at w
  unfold cX8_columns
  exact w_X8_columns_0 w
def W_X8_data_195 (D : JD) (d : Nat) (Q : JO → JH → Prop) (K16 : Nat → Nat → Int32 → Int32 → JH → Prop) (r0 : Nat) (r1 : Nat) (x2 : Int32) (x3 : Int32) (h : JH) : Prop :=
  K16 r0 r1 x2 (x3 + (1 : Int32)) h
theorem w_X8_data_195 {D : JD} {d : Nat} {Q : JO → JH → Prop} {K16 : Nat → Nat → Int32 → Int32 → JH → Prop} {r0 : Nat} {r1 : Nat} {x2 : Int32} {x3 : Int32} {h : JH} (hK16 : ∀ (r0 : Nat) (r1 : Nat) (x2 : Int32) (x3 : Int32) (h : JH), K16 r0 r1 x2 x3 h → JW D (d + 1) mX8_data 16 [some (vR 41 r0), some (vR 45 r1), some (vI x2), some (vI x3), none, none, none] [] h Q) (w : W_X8_data_195 D d Q K16 r0 r1 x2 x3 h) : JW D (d + 1) mX8_data 195 [some (vR 41 r0), some (vR 45 r1), some (vI x2), some (vI x3), none, none, none] [] h Q := by
  unfold W_X8_data_195 at w
  refine jw_iinc (pc' := 198) (y := x3 + (1 : Int32)) (ls' := [some (vR 41 r0), some (vR 45 r1), some (vI x2), some (vI (x3 + (1 : Int32))), none, none, none]) rfl (by decide) rfl rfl rfl ?_
  refine jw_goto (pc' := 16) rfl rfl ?_
  exact hK16 _ _ _ _ _ w
def W_X8_data_151 (D : JD) (d : Nat) (Q : JO → JH → Prop) (K16 : Nat → Nat → Int32 → Int32 → JH → Prop) (K151 : Nat → Nat → Int32 → Int32 → Int32 → Int32 → Int32 → JH → Prop) (r0 : Nat) (r1 : Nat) (x2 : Int32) (x3 : Int32) (x4 : Int32) (x5 : Int32) (x6 : Int32) (h : JH) : Prop :=
  r1 ≠ 0 ∧ ((jfr h 263 r1) ≠ 0 ∧ jin x4 (jln h (jfr h 263 r1)) ∧ (((jai h (jfr h 263 r1) (ixn x4)) ≤ x6 → W_X8_data_195 D d Q K16 r0 r1 x2 x3 h) ∧ (¬ (jai h (jfr h 263 r1) (ixn x4)) ≤ x6 → (¬ x5 = (25 : Int32) → W_X8_data_195 D d Q K16 r0 r1 x2 x3 h) ∧ (x5 = (25 : Int32) → (jfr h 262 r1) ≠ 0 ∧ jin x4 (jln h (jfr h 262 r1)) ∧ ((jfr h 264 r1) ≠ 0 ∧ jin ((jai h (jfr h 262 r1) (ixn x4)) + x6) (jln h (jfr h 264 r1)) ∧ (r0 ≠ 0 ∧ (cX8_say D d r0 (jai h (jfr h 264 r1) (ixn ((jai h (jfr h 262 r1) (ixn x4)) + x6))) h (pV D h (fun h_11 => K151 r0 r1 x2 x3 x4 x5 (x6 + (1 : Int32)) h_11) (jth Q)))))))))
theorem w_X8_data_151 {D : JD} {d : Nat} {Q : JO → JH → Prop} {K16 : Nat → Nat → Int32 → Int32 → JH → Prop} {K151 : Nat → Nat → Int32 → Int32 → Int32 → Int32 → Int32 → JH → Prop} {r0 : Nat} {r1 : Nat} {x2 : Int32} {x3 : Int32} {x4 : Int32} {x5 : Int32} {x6 : Int32} {h : JH} (hK16 : ∀ (r0 : Nat) (r1 : Nat) (x2 : Int32) (x3 : Int32) (h : JH), K16 r0 r1 x2 x3 h → JW D (d + 1) mX8_data 16 [some (vR 41 r0), some (vR 45 r1), some (vI x2), some (vI x3), none, none, none] [] h Q) (hK151 : ∀ (r0 : Nat) (r1 : Nat) (x2 : Int32) (x3 : Int32) (x4 : Int32) (x5 : Int32) (x6 : Int32) (h : JH), K151 r0 r1 x2 x3 x4 x5 x6 h → JW D (d + 1) mX8_data 151 [some (vR 41 r0), some (vR 45 r1), some (vI x2), some (vI x3), some (vI x4), some (vI x5), some (vI x6)] [] h Q) (w : W_X8_data_151 D d Q K16 K151 r0 r1 x2 x3 x4 x5 x6 h) : JW D (d + 1) mX8_data 151 [some (vR 41 r0), some (vR 45 r1), some (vI x2), some (vI x3), some (vI x4), some (vI x5), some (vI x6)] [] h Q := by
  unfold W_X8_data_151 at w
  refine jw_iload (pc' := 153) rfl rfl ?_
  refine jw_aload_n (pc' := 154) rfl rfl ?_
  obtain ⟨g_1, w⟩ := w
  refine jw_getR (pc' := 157) (F := 263) (t' := 195) rfl rfl rfl rfl rfl g_1 ?_
  refine jw_iload (pc' := 159) rfl rfl ?_
  obtain ⟨g_2, w⟩ := w
  obtain ⟨g_3, w⟩ := w
  refine jw_bald (pc' := 160) rfl rfl rfl rfl g_2 g_3.ix g_3.2 ?_
  refine jw_icmp_ge (tgt := 195) (pc' := 163) rfl rfl (fun c_4 => ?_) (fun c_4 => ?_)
  · replace w := w.1 c_4
    refine jw_gen (ls' := [some (vR 41 r0), some (vR 45 r1), some (vI x2), some (vI x3), none, none, none]) (st' := []) (And.intro (Or.inl rfl) (And.intro (Or.inl rfl) (And.intro (Or.inl rfl) (And.intro (Or.inl rfl) (trivial))))) (trivial) ?_
    exact w_X8_data_195 hK16 w
  · replace w := w.2 c_4
    refine jw_iload (pc' := 165) rfl rfl ?_
    refine jw_bipush (pc' := 167) (x := (25 : Int32)) rfl rfl ?_
    refine jw_icmp_ne (tgt := 195) (pc' := 170) rfl rfl (fun c_5 => ?_) (fun c_5 => ?_)
    · replace w := w.1 c_5
      refine jw_gen (ls' := [some (vR 41 r0), some (vR 45 r1), some (vI x2), some (vI x3), none, none, none]) (st' := []) (And.intro (Or.inl rfl) (And.intro (Or.inl rfl) (And.intro (Or.inl rfl) (And.intro (Or.inl rfl) (trivial))))) (trivial) ?_
      exact w_X8_data_195 hK16 w
    · replace w := w.2 c_5
      refine jw_aload_n (pc' := 171) rfl rfl ?_
      refine jw_aload_n (pc' := 172) rfl rfl ?_
      refine jw_getR (pc' := 175) (F := 264) (t' := 196) rfl rfl rfl rfl rfl g_1 ?_
      refine jw_aload_n (pc' := 176) rfl rfl ?_
      refine jw_getR (pc' := 179) (F := 262) (t' := 194) rfl rfl rfl rfl rfl g_1 ?_
      refine jw_iload (pc' := 181) rfl rfl ?_
      obtain ⟨g_6, w⟩ := w
      obtain ⟨g_7, w⟩ := w
      refine jw_sald (pc' := 182) rfl rfl rfl rfl g_6 g_7.ix g_7.2 ?_
      refine jw_iload (pc' := 184) rfl rfl ?_
      refine jw_iadd (pc' := 185) rfl ?_
      obtain ⟨g_8, w⟩ := w
      obtain ⟨g_9, w⟩ := w
      refine jw_bald (pc' := 186) rfl rfl rfl rfl g_8 g_9.ix g_9.2 ?_
      obtain ⟨g_10, w⟩ := w
      refine jw_cV (st := []) (sa := [vR 41 r0, vI (jai h (jfr h 264 r1) (ixn ((jai h (jfr h 262 r1) (ixn x4)) + x6)))]) okX8_say rfl rfl rfl rfl rfl rfl (jstp_virtual (sa := [vI (jai h (jfr h 264 r1) (ixn ((jai h (jfr h 262 r1) (ixn x4)) + x6)))]) (st := []) (k := 0) rfl rfl sX8_say okX8_say g_10 (one41.k g_10) rfl rfl) w (fun h_11 _ _ w => ?_)
      refine jw_iinc (pc' := 192) (y := x6 + (1 : Int32)) (ls' := [some (vR 41 r0), some (vR 45 r1), some (vI x2), some (vI x3), some (vI x4), some (vI x5), some (vI (x6 + (1 : Int32)))]) rfl (by decide) rfl rfl rfl ?_
      refine jw_goto (pc' := 151) rfl rfl ?_
      exact hK151 _ _ _ _ _ _ _ _ w
def L_X8_data_151 (D : JD) (d : Nat) (Q : JO → JH → Prop) (K16 : Nat → Nat → Int32 → Int32 → JH → Prop) : Nat → Nat → Nat → Int32 → Int32 → Int32 → Int32 → Int32 → JH → Prop
  | 0 => fun _ _ _ _ _ _ _ _ => False
  | n + 1 => fun r0 r1 x2 x3 x4 x5 x6 h => W_X8_data_151 D d Q K16 (L_X8_data_151 D d Q K16 n) r0 r1 x2 x3 x4 x5 x6 h
theorem l_X8_data_151 {D : JD} {d : Nat} {Q : JO → JH → Prop} {K16 : Nat → Nat → Int32 → Int32 → JH → Prop} (hK16 : ∀ (r0 : Nat) (r1 : Nat) (x2 : Int32) (x3 : Int32) (h : JH), K16 r0 r1 x2 x3 h → JW D (d + 1) mX8_data 16 [some (vR 41 r0), some (vR 45 r1), some (vI x2), some (vI x3), none, none, none] [] h Q) : ∀ (n : Nat) (r0 : Nat) (r1 : Nat) (x2 : Int32) (x3 : Int32) (x4 : Int32) (x5 : Int32) (x6 : Int32) (h : JH), L_X8_data_151 D d Q K16 n r0 r1 x2 x3 x4 x5 x6 h → JW D (d + 1) mX8_data 151 [some (vR 41 r0), some (vR 45 r1), some (vI x2), some (vI x3), some (vI x4), some (vI x5), some (vI x6)] [] h Q := by
  intro n
  induction n with
  | zero => intro _ _ _ _ _ _ _ _ w; exact w.elim
  | succ n ih => intro _ _ _ _ _ _ _ h w; exact w_X8_data_151 hK16 ih w
def W_X8_data_142 (D : JD) (d : Nat) (Q : JO → JH → Prop) (K16 : Nat → Nat → Int32 → Int32 → JH → Prop) (r0 : Nat) (r1 : Nat) (x2 : Int32) (x3 : Int32) (q0 : Nat) (s1 : Int32) (h : JH) : Prop :=
  q0 ≠ 0 ∧ (cX8_say D d q0 s1 h (pV D h (fun h_2 => W_X8_data_195 D d Q K16 r0 r1 x2 x3 h_2) (jth Q)))
theorem w_X8_data_142 {D : JD} {d : Nat} {Q : JO → JH → Prop} {K16 : Nat → Nat → Int32 → Int32 → JH → Prop} {r0 : Nat} {r1 : Nat} {x2 : Int32} {x3 : Int32} {q0 : Nat} {s1 : Int32} {h : JH} (hK16 : ∀ (r0 : Nat) (r1 : Nat) (x2 : Int32) (x3 : Int32) (h : JH), K16 r0 r1 x2 x3 h → JW D (d + 1) mX8_data 16 [some (vR 41 r0), some (vR 45 r1), some (vI x2), some (vI x3), none, none, none] [] h Q) (w : W_X8_data_142 D d Q K16 r0 r1 x2 x3 q0 s1 h) : JW D (d + 1) mX8_data 142 [some (vR 41 r0), some (vR 45 r1), some (vI x2), some (vI x3), none, none, none] [vI s1, vR 41 q0] h Q := by
  unfold W_X8_data_142 at w
  obtain ⟨g_1, w⟩ := w
  refine jw_cV (st := []) (sa := [vR 41 q0, vI s1]) okX8_say rfl rfl rfl rfl rfl rfl (jstp_virtual (sa := [vI s1]) (st := []) (k := 0) rfl rfl sX8_say okX8_say g_1 (one41.k g_1) rfl rfl) w (fun h_2 _ _ w => ?_)
  refine jw_goto (pc' := 195) rfl rfl ?_
  exact w_X8_data_195 hK16 w
def W_X8_data_91 (D : JD) (d : Nat) (Q : JO → JH → Prop) (K16 : Nat → Nat → Int32 → Int32 → JH → Prop) (r0 : Nat) (r1 : Nat) (x2 : Int32) (x3 : Int32) (x4 : Int32) (x5 : Int32) (q0 : Nat) (s1 : Int32) (h : JH) : Prop :=
  q0 ≠ 0 ∧ (cX8_say4 D d q0 s1 h (pV D h (fun h_2 => (¬ x5 = (20 : Int32) → (¬ x5 = (16 : Int32) → ∃ n, L_X8_data_151 D d Q K16 n r0 r1 x2 x3 x4 x5 (0 : Int32) h_2) ∧ (x5 = (16 : Int32) → r1 ≠ 0 ∧ ((jfr h_2 261 r1) ≠ 0 ∧ jin x4 (jln h_2 (jfr h_2 261 r1)) ∧ ((¬ (lg_cmp (jal h_2 (jfr h_2 261 r1) (ixn x4)) (1 : Int64)) = 0 → W_X8_data_142 D d Q K16 r0 r1 x2 x3 r0 (102 : Int32) h_2) ∧ ((lg_cmp (jal h_2 (jfr h_2 261 r1) (ixn x4)) (1 : Int64)) = 0 → W_X8_data_142 D d Q K16 r0 r1 x2 x3 r0 (116 : Int32) h_2))))) ∧ (x5 = (20 : Int32) → r1 ≠ 0 ∧ ((jfr h_2 261 r1) ≠ 0 ∧ jin x4 (jln h_2 (jfr h_2 261 r1)) ∧ (r0 ≠ 0 ∧ (cX8_spell D d r0 (jal h_2 (jfr h_2 261 r1) (ixn x4)) h_2 (pV D h_2 (fun h_15 => W_X8_data_195 D d Q K16 r0 r1 x2 x3 h_15) (jth Q))))))) (jth Q)))
theorem w_X8_data_91 {D : JD} {d : Nat} {Q : JO → JH → Prop} {K16 : Nat → Nat → Int32 → Int32 → JH → Prop} {r0 : Nat} {r1 : Nat} {x2 : Int32} {x3 : Int32} {x4 : Int32} {x5 : Int32} {q0 : Nat} {s1 : Int32} {h : JH} (hK16 : ∀ (r0 : Nat) (r1 : Nat) (x2 : Int32) (x3 : Int32) (h : JH), K16 r0 r1 x2 x3 h → JW D (d + 1) mX8_data 16 [some (vR 41 r0), some (vR 45 r1), some (vI x2), some (vI x3), none, none, none] [] h Q) (w : W_X8_data_91 D d Q K16 r0 r1 x2 x3 x4 x5 q0 s1 h) : JW D (d + 1) mX8_data 91 [some (vR 41 r0), some (vR 45 r1), some (vI x2), some (vI x3), some (vI x4), some (vI x5), none] [vI s1, vR 41 q0] h Q := by
  unfold W_X8_data_91 at w
  obtain ⟨g_1, w⟩ := w
  refine jw_cV (st := []) (sa := [vR 41 q0, vI s1]) okX8_say4 rfl rfl rfl rfl rfl rfl (jstp_virtual (sa := [vI s1]) (st := []) (k := 0) rfl rfl sX8_say4 okX8_say4 g_1 (one41.k g_1) rfl rfl) w (fun h_2 _ _ w => ?_)
  refine jw_iload (pc' := 96) rfl rfl ?_
  refine jw_bipush (pc' := 98) (x := (20 : Int32)) rfl rfl ?_
  refine jw_icmp_ne (tgt := 115) (pc' := 101) rfl rfl (fun c_5 => ?_) (fun c_5 => ?_)
  · replace w := w.1 c_5
    refine jw_iload (pc' := 117) rfl rfl ?_
    refine jw_bipush (pc' := 119) (x := (16 : Int32)) rfl rfl ?_
    refine jw_icmp_ne (tgt := 148) (pc' := 122) rfl rfl (fun c_6 => ?_) (fun c_6 => ?_)
    · replace w := w.1 c_6
      refine jw_iconst (pc' := 149) (x := (0 : Int32)) rfl rfl ?_
      refine jw_istore (pc' := 151) (ls' := [some (vR 41 r0), some (vR 45 r1), some (vI x2), some (vI x3), some (vI x4), some (vI x5), some (vI (0 : Int32))]) rfl (by decide) rfl ?_
      obtain ⟨n, w⟩ := w
      exact l_X8_data_151 hK16 n _ _ _ _ _ _ _ _ w
    · replace w := w.2 c_6
      refine jw_aload_n (pc' := 123) rfl rfl ?_
      refine jw_aload_n (pc' := 124) rfl rfl ?_
      obtain ⟨g_7, w⟩ := w
      refine jw_getR (pc' := 127) (F := 261) (t' := 193) rfl rfl rfl rfl rfl g_7 ?_
      refine jw_iload (pc' := 129) rfl rfl ?_
      obtain ⟨g_8, w⟩ := w
      obtain ⟨g_9, w⟩ := w
      refine jw_lald (pc' := 130) rfl rfl rfl rfl g_8 g_9.ix g_9.2 ?_
      refine jw_lconst (pc' := 131) (x := (1 : Int64)) rfl rfl ?_
      refine jw_lcmp (pc' := 132) rfl ?_
      refine jw_if_ne (tgt := 140) (pc' := 135) rfl rfl (fun c_10 => ?_) (fun c_10 => ?_)
      · replace w := w.1 c_10
        refine jw_bipush (pc' := 142) (x := (102 : Int32)) rfl rfl ?_
        refine jw_gen (ls' := [some (vR 41 r0), some (vR 45 r1), some (vI x2), some (vI x3), none, none, none]) (st' := [vI (102 : Int32), vR 41 r0]) (And.intro (Or.inl rfl) (And.intro (Or.inl rfl) (And.intro (Or.inl rfl) (And.intro (Or.inl rfl) (trivial))))) (And.intro (Or.inl rfl) (And.intro (Or.inl rfl) (trivial))) ?_
        exact w_X8_data_142 hK16 w
      · replace w := w.2 c_10
        refine jw_bipush (pc' := 137) (x := (116 : Int32)) rfl rfl ?_
        refine jw_goto (pc' := 142) rfl rfl ?_
        refine jw_gen (ls' := [some (vR 41 r0), some (vR 45 r1), some (vI x2), some (vI x3), none, none, none]) (st' := [vI (116 : Int32), vR 41 r0]) (And.intro (Or.inl rfl) (And.intro (Or.inl rfl) (And.intro (Or.inl rfl) (And.intro (Or.inl rfl) (trivial))))) (And.intro (Or.inl rfl) (And.intro (Or.inl rfl) (trivial))) ?_
        exact w_X8_data_142 hK16 w
  · replace w := w.2 c_5
    refine jw_aload_n (pc' := 102) rfl rfl ?_
    refine jw_aload_n (pc' := 103) rfl rfl ?_
    obtain ⟨g_11, w⟩ := w
    refine jw_getR (pc' := 106) (F := 261) (t' := 193) rfl rfl rfl rfl rfl g_11 ?_
    refine jw_iload (pc' := 108) rfl rfl ?_
    obtain ⟨g_12, w⟩ := w
    obtain ⟨g_13, w⟩ := w
    refine jw_lald (pc' := 109) rfl rfl rfl rfl g_12 g_13.ix g_13.2 ?_
    obtain ⟨g_14, w⟩ := w
    refine jw_cV (st := []) (sa := [vR 41 r0, vL (jal h_2 (jfr h_2 261 r1) (ixn x4))]) okX8_spell rfl rfl rfl rfl rfl rfl (jstp_virtual (sa := [vL (jal h_2 (jfr h_2 261 r1) (ixn x4))]) (st := []) (k := 0) rfl rfl sX8_spell okX8_spell g_14 (one41.k g_14) rfl rfl) w (fun h_15 _ _ w => ?_)
    refine jw_goto (pc' := 195) rfl rfl ?_
    refine jw_gen (ls' := [some (vR 41 r0), some (vR 45 r1), some (vI x2), some (vI x3), none, none, none]) (st' := []) (And.intro (Or.inl rfl) (And.intro (Or.inl rfl) (And.intro (Or.inl rfl) (And.intro (Or.inl rfl) (trivial))))) (trivial) ?_
    exact w_X8_data_195 hK16 w
def W_X8_data_16 (D : JD) (d : Nat) (Q : JO → JH → Prop) (K16 : Nat → Nat → Int32 → Int32 → JH → Prop) (r0 : Nat) (r1 : Nat) (x2 : Int32) (x3 : Int32) (h : JH) : Prop :=
  r1 ≠ 0 ∧ (((jfi h 257 r1) ≤ x3 → r0 ≠ 0 ∧ (cX8_close D d r0 h (pV D h (fun h_4 => Q (.inl none) h_4) (jth Q)))) ∧ (¬ (jfi h 257 r1) ≤ x3 → (jfr h 260 r1) ≠ 0 ∧ jin ((x2 * (jfi h 257 r1)) + x3) (jln h (jfr h 260 r1)) ∧ ((¬ (jai h (jfr h 260 r1) (ixn ((x2 * (jfi h 257 r1)) + x3))) = 0 → (¬ (jai h (jfr h 260 r1) (ixn ((x2 * (jfi h 257 r1)) + x3))) = (20 : Int32) → (¬ (jai h (jfr h 260 r1) (ixn ((x2 * (jfi h 257 r1)) + x3))) = (16 : Int32) → (jfr h 263 r1) ≠ 0 ∧ jin ((x2 * (jfi h 257 r1)) + x3) (jln h (jfr h 263 r1)) ∧ (W_X8_data_91 D d Q K16 r0 r1 x2 x3 ((x2 * (jfi h 257 r1)) + x3) (jai h (jfr h 260 r1) (ixn ((x2 * (jfi h 257 r1)) + x3))) r0 (jai h (jfr h 263 r1) (ixn ((x2 * (jfi h 257 r1)) + x3))) h)) ∧ ((jai h (jfr h 260 r1) (ixn ((x2 * (jfi h 257 r1)) + x3))) = (16 : Int32) → W_X8_data_91 D d Q K16 r0 r1 x2 x3 ((x2 * (jfi h 257 r1)) + x3) (jai h (jfr h 260 r1) (ixn ((x2 * (jfi h 257 r1)) + x3))) r0 (1 : Int32) h)) ∧ ((jai h (jfr h 260 r1) (ixn ((x2 * (jfi h 257 r1)) + x3))) = (20 : Int32) → (jfr h 261 r1) ≠ 0 ∧ jin ((x2 * (jfi h 257 r1)) + x3) (jln h (jfr h 261 r1)) ∧ (cX8_digits D d (jal h (jfr h 261 r1) (ixn ((x2 * (jfi h 257 r1)) + x3))) h (pI D h (fun v_18 h_16 => W_X8_data_91 D d Q K16 r0 r1 x2 x3 ((x2 * (jfi h 257 r1)) + x3) (jai h (jfr h 260 r1) (ixn ((x2 * (jfi h 257 r1)) + x3))) r0 v_18 h_16) (jth Q))))) ∧ ((jai h (jfr h 260 r1) (ixn ((x2 * (jfi h 257 r1)) + x3))) = 0 → W_X8_data_91 D d Q K16 r0 r1 x2 x3 ((x2 * (jfi h 257 r1)) + x3) (jai h (jfr h 260 r1) (ixn ((x2 * (jfi h 257 r1)) + x3))) r0 (-1 : Int32) h))))
theorem w_X8_data_16 {D : JD} {d : Nat} {Q : JO → JH → Prop} {K16 : Nat → Nat → Int32 → Int32 → JH → Prop} {r0 : Nat} {r1 : Nat} {x2 : Int32} {x3 : Int32} {h : JH} (hK16 : ∀ (r0 : Nat) (r1 : Nat) (x2 : Int32) (x3 : Int32) (h : JH), K16 r0 r1 x2 x3 h → JW D (d + 1) mX8_data 16 [some (vR 41 r0), some (vR 45 r1), some (vI x2), some (vI x3), none, none, none] [] h Q) (w : W_X8_data_16 D d Q K16 r0 r1 x2 x3 h) : JW D (d + 1) mX8_data 16 [some (vR 41 r0), some (vR 45 r1), some (vI x2), some (vI x3), none, none, none] [] h Q := by
  unfold W_X8_data_16 at w
  refine jw_iload_n (pc' := 17) rfl rfl ?_
  refine jw_aload_n (pc' := 18) rfl rfl ?_
  obtain ⟨g_1, w⟩ := w
  refine jw_getI (pc' := 21) (F := 257) rfl rfl rfl rfl g_1 ?_
  refine jw_icmp_ge (tgt := 201) (pc' := 24) rfl rfl (fun c_2 => ?_) (fun c_2 => ?_)
  · replace w := w.1 c_2
    refine jw_aload_n (pc' := 202) rfl rfl ?_
    obtain ⟨g_3, w⟩ := w
    refine jw_cV (st := []) (sa := [vR 41 r0]) okX8_close rfl rfl rfl rfl rfl rfl (jstp_virtual (sa := []) (st := []) (k := 0) rfl rfl sX8_close okX8_close g_3 (one41.k g_3) rfl rfl) w (fun h_4 _ _ w => ?_)
    exact jw_return rfl rfl w
  · replace w := w.2 c_2
    refine jw_iload_n (pc' := 25) rfl rfl ?_
    refine jw_aload_n (pc' := 26) rfl rfl ?_
    refine jw_getI (pc' := 29) (F := 257) rfl rfl rfl rfl g_1 ?_
    refine jw_imul (pc' := 30) rfl ?_
    refine jw_iload_n (pc' := 31) rfl rfl ?_
    refine jw_iadd (pc' := 32) rfl ?_
    refine jw_istore (pc' := 34) (ls' := [some (vR 41 r0), some (vR 45 r1), some (vI x2), some (vI x3), some (vI ((x2 * (jfi h 257 r1)) + x3)), none, none]) rfl (by decide) rfl ?_
    refine jw_aload_n (pc' := 35) rfl rfl ?_
    refine jw_getR (pc' := 38) (F := 260) (t' := 192) rfl rfl rfl rfl rfl g_1 ?_
    refine jw_iload (pc' := 40) rfl rfl ?_
    obtain ⟨g_7, w⟩ := w
    obtain ⟨g_8, w⟩ := w
    refine jw_bald (pc' := 41) rfl rfl rfl rfl g_7 g_8.ix g_8.2 ?_
    refine jw_istore (pc' := 43) (ls' := [some (vR 41 r0), some (vR 45 r1), some (vI x2), some (vI x3), some (vI ((x2 * (jfi h 257 r1)) + x3)), some (vI (jai h (jfr h 260 r1) (ixn ((x2 * (jfi h 257 r1)) + x3)))), none]) rfl (by decide) rfl ?_
    refine jw_aload_n (pc' := 44) rfl rfl ?_
    refine jw_iload (pc' := 46) rfl rfl ?_
    refine jw_if_ne (tgt := 53) (pc' := 49) rfl rfl (fun c_9 => ?_) (fun c_9 => ?_)
    · replace w := w.1 c_9
      refine jw_iload (pc' := 55) rfl rfl ?_
      refine jw_bipush (pc' := 57) (x := (20 : Int32)) rfl rfl ?_
      refine jw_icmp_ne (tgt := 73) (pc' := 60) rfl rfl (fun c_10 => ?_) (fun c_10 => ?_)
      · replace w := w.1 c_10
        refine jw_iload (pc' := 75) rfl rfl ?_
        refine jw_bipush (pc' := 77) (x := (16 : Int32)) rfl rfl ?_
        refine jw_icmp_ne (tgt := 84) (pc' := 80) rfl rfl (fun c_11 => ?_) (fun c_11 => ?_)
        · replace w := w.1 c_11
          refine jw_aload_n (pc' := 85) rfl rfl ?_
          refine jw_getR (pc' := 88) (F := 263) (t' := 195) rfl rfl rfl rfl rfl g_1 ?_
          refine jw_iload (pc' := 90) rfl rfl ?_
          obtain ⟨g_12, w⟩ := w
          obtain ⟨g_13, w⟩ := w
          refine jw_bald (pc' := 91) rfl rfl rfl rfl g_12 g_13.ix g_13.2 ?_
          exact w_X8_data_91 hK16 w
        · replace w := w.2 c_11
          refine jw_iconst (pc' := 81) (x := (1 : Int32)) rfl rfl ?_
          refine jw_goto (pc' := 91) rfl rfl ?_
          exact w_X8_data_91 hK16 w
      · replace w := w.2 c_10
        refine jw_aload_n (pc' := 61) rfl rfl ?_
        refine jw_getR (pc' := 64) (F := 261) (t' := 193) rfl rfl rfl rfl rfl g_1 ?_
        refine jw_iload (pc' := 66) rfl rfl ?_
        obtain ⟨g_14, w⟩ := w
        obtain ⟨g_15, w⟩ := w
        refine jw_lald (pc' := 67) rfl rfl rfl rfl g_14 g_15.ix g_15.2 ?_
        refine jw_cI (st := [vR 41 r0]) (sa := [vL (jal h (jfr h 261 r1) (ixn ((x2 * (jfi h 257 r1)) + x3)))]) okX8_digits rfl rfl rfl rfl rfl rfl (jstp_static (sa := [vL (jal h (jfr h 261 r1) (ixn ((x2 * (jfi h 257 r1)) + x3)))]) (st := [vR 41 r0]) rfl rfl sX8_digits okX8_digits rfl rfl) w (fun v_18 h_16 _ _ w => ?_)
        refine jw_goto (pc' := 91) rfl rfl ?_
        exact w_X8_data_91 hK16 w
    · replace w := w.2 c_9
      refine jw_iconst (pc' := 50) (x := (-1 : Int32)) rfl rfl ?_
      refine jw_goto (pc' := 91) rfl rfl ?_
      exact w_X8_data_91 hK16 w
def L_X8_data_16 (D : JD) (d : Nat) (Q : JO → JH → Prop) : Nat → Nat → Nat → Int32 → Int32 → JH → Prop
  | 0 => fun _ _ _ _ _ => False
  | n + 1 => fun r0 r1 x2 x3 h => W_X8_data_16 D d Q (L_X8_data_16 D d Q n) r0 r1 x2 x3 h
theorem l_X8_data_16 {D : JD} {d : Nat} {Q : JO → JH → Prop} : ∀ (n : Nat) (r0 : Nat) (r1 : Nat) (x2 : Int32) (x3 : Int32) (h : JH), L_X8_data_16 D d Q n r0 r1 x2 x3 h → JW D (d + 1) mX8_data 16 [some (vR 41 r0), some (vR 45 r1), some (vI x2), some (vI x3), none, none, none] [] h Q := by
  intro n
  induction n with
  | zero => intro _ _ _ _ _ w; exact w.elim
  | succ n ih => intro _ _ _ _ h w; exact w_X8_data_16 ih w
def W_X8_data_0 (D : JD) (d : Nat) (Q : JO → JH → Prop) (r0 : Nat) (r1 : Nat) (x2 : Int32) (h : JH) : Prop :=
  r0 ≠ 0 ∧ (cX8_begin D d r0 (68 : Int32) h (pV D h (fun h_2 => r1 ≠ 0 ∧ (cX8_say2 D d r0 (jfi h_2 257 r1) h_2 (pV D h_2 (fun h_6 => ∃ n, L_X8_data_16 D d Q n r0 r1 x2 (0 : Int32) h_6) (jth Q)))) (jth Q)))
theorem w_X8_data_0 {D : JD} {d : Nat} {Q : JO → JH → Prop} {r0 : Nat} {r1 : Nat} {x2 : Int32} {h : JH} (w : W_X8_data_0 D d Q r0 r1 x2 h) : JW D (d + 1) mX8_data 0 [some (vR 41 r0), some (vR 45 r1), some (vI x2), none, none, none, none] [] h Q := by
  unfold W_X8_data_0 at w
  refine jw_aload_n (pc' := 1) rfl rfl ?_
  refine jw_bipush (pc' := 3) (x := (68 : Int32)) rfl rfl ?_
  obtain ⟨g_1, w⟩ := w
  refine jw_cV (st := []) (sa := [vR 41 r0, vI (68 : Int32)]) okX8_begin rfl rfl rfl rfl rfl rfl (jstp_virtual (sa := [vI (68 : Int32)]) (st := []) (k := 0) rfl rfl sX8_begin okX8_begin g_1 (one41.k g_1) rfl rfl) w (fun h_2 _ _ w => ?_)
  refine jw_aload_n (pc' := 7) rfl rfl ?_
  refine jw_aload_n (pc' := 8) rfl rfl ?_
  obtain ⟨g_5, w⟩ := w
  refine jw_getI (pc' := 11) (F := 257) rfl rfl rfl rfl g_5 ?_
  refine jw_cV (st := []) (sa := [vR 41 r0, vI (jfi h_2 257 r1)]) okX8_say2 rfl rfl rfl rfl rfl rfl (jstp_virtual (sa := [vI (jfi h_2 257 r1)]) (st := []) (k := 0) rfl rfl sX8_say2 okX8_say2 g_1 (one41.k g_1) rfl rfl) w (fun h_6 _ _ w => ?_)
  refine jw_iconst (pc' := 15) (x := (0 : Int32)) rfl rfl ?_
  refine jw_istore_n (pc' := 16) (ls' := [some (vR 41 r0), some (vR 45 r1), some (vI x2), some (vI (0 : Int32)), none, none, none]) rfl (by decide) rfl ?_
  obtain ⟨n, w⟩ := w
  exact l_X8_data_16 n _ _ _ _ _ w
def T_X8_data (D : JD) (d : Nat) (Q : JO → JH → Prop) (r0 : Nat) (r1 : Nat) (x2 : Int32) (h : JH) : Prop := W_X8_data_0 D d Q r0 r1 x2 h
theorem t_X8_data {D : JD} {d : Nat} {Q : JO → JH → Prop} {r0 : Nat} {r1 : Nat} {x2 : Int32} {h : JH} (w : T_X8_data D d Q r0 r1 x2 h) : cX8_data D (d + 1) r0 r1 x2 h Q := by
  unfold T_X8_data at w
  unfold cX8_data
  exact w_X8_data_0 w
def W_X8_endAsk_13 (D : JD) (d : Nat) (Q : JO → JH → Prop) (r0 : Nat) (h : JH) : Prop :=
  r0 ≠ 0 ∧ (cX8_ready D d r0 h (pV D h (fun h_2 => Q (.inl none) h_2) (jth Q)))
theorem w_X8_endAsk_13 {D : JD} {d : Nat} {Q : JO → JH → Prop} {r0 : Nat} {h : JH} (w : W_X8_endAsk_13 D d Q r0 h) : JW D (d + 1) mX8_endAsk 13 [some (vR 41 r0)] [] h Q := by
  unfold W_X8_endAsk_13 at w
  refine jw_aload_n (pc' := 14) rfl rfl ?_
  obtain ⟨g_1, w⟩ := w
  refine jw_cV (st := []) (sa := [vR 41 r0]) okX8_ready rfl rfl rfl rfl rfl rfl (jstp_virtual (sa := []) (st := []) (k := 0) rfl rfl sX8_ready okX8_ready g_1 (one41.k g_1) rfl rfl) w (fun h_2 _ _ w => ?_)
  exact jw_return rfl rfl w
def W_X8_endAsk_0 (D : JD) (d : Nat) (Q : JO → JH → Prop) (r0 : Nat) (h : JH) : Prop :=
  r0 ≠ 0 ∧ ((¬ (jfi h 228 r0) = (2 : Int32) → W_X8_endAsk_13 D d Q r0 h) ∧ ((jfi h 228 r0) = (2 : Int32) → ∀ h_3 : JH, h_3 = wfi h 234 r0 (0 : Int32) → (W_X8_endAsk_13 D d Q r0 h_3)))
theorem w_X8_endAsk_0 {D : JD} {d : Nat} {Q : JO → JH → Prop} {r0 : Nat} {h : JH} (w : W_X8_endAsk_0 D d Q r0 h) : JW D (d + 1) mX8_endAsk 0 [some (vR 41 r0)] [] h Q := by
  unfold W_X8_endAsk_0 at w
  refine jw_aload_n (pc' := 1) rfl rfl ?_
  obtain ⟨g_1, w⟩ := w
  refine jw_getI (pc' := 4) (F := 228) rfl rfl rfl rfl g_1 ?_
  refine jw_iconst (pc' := 5) (x := (2 : Int32)) rfl rfl ?_
  refine jw_icmp_ne (tgt := 13) (pc' := 8) rfl rfl (fun c_2 => ?_) (fun c_2 => ?_)
  · replace w := w.1 c_2
    exact w_X8_endAsk_13 w
  · replace w := w.2 c_2
    refine jw_aload_n (pc' := 9) rfl rfl ?_
    refine jw_iconst (pc' := 10) (x := (0 : Int32)) rfl rfl ?_
    refine jw_putI' (pc' := 13) (F := 234) rfl rfl rfl (Or.inr rfl) (Or.inl rfl) rfl (rfl) (rfl) rfl g_1 (fun h_3 e_4 => ?_)
    replace w := w h_3 e_4
    exact w_X8_endAsk_13 w
def T_X8_endAsk (D : JD) (d : Nat) (Q : JO → JH → Prop) (r0 : Nat) (h : JH) : Prop := W_X8_endAsk_0 D d Q r0 h
theorem t_X8_endAsk {D : JD} {d : Nat} {Q : JO → JH → Prop} {r0 : Nat} {h : JH} (w : T_X8_endAsk D d Q r0 h) : cX8_endAsk D (d + 1) r0 h Q := by
  unfold T_X8_endAsk at w
  unfold cX8_endAsk
  exact w_X8_endAsk_0 w
def W_X8_prepare_437 (D : JD) (d : Nat) (Q : JO → JH → Prop) (K391 : Nat → Int32 → Nat → Int32 → JH → Prop) (r0 : Nat) (x4 : Int32) (r7 : Nat) (x8 : Int32) (q0 : Nat) (s1 : Int32) (s2 : Int32) (h : JH) : Prop :=
  q0 ≠ 0 ∧ jin s1 (jln h q0) ∧ ∀ h_3 : JH, h_3 = wai h q0 (ixn s1) s2 → (K391 r0 x4 r7 (x8 + (1 : Int32)) h_3)
theorem w_X8_prepare_437 {D : JD} {d : Nat} {Q : JO → JH → Prop} {K391 : Nat → Int32 → Nat → Int32 → JH → Prop} {r0 : Nat} {x4 : Int32} {r7 : Nat} {x8 : Int32} {q0 : Nat} {s1 : Int32} {s2 : Int32} {h : JH} (hK391 : ∀ (r0 : Nat) (x4 : Int32) (r7 : Nat) (x8 : Int32) (h : JH), K391 r0 x4 r7 x8 h → JW D (d + 1) mX8_prepare 391 [some (vR 41 r0), none, none, none, some (vI x4), none, none, some (vR 49 r7), some (vI x8)] [] h Q) (w : W_X8_prepare_437 D d Q K391 r0 x4 r7 x8 q0 s1 s2 h) : JW D (d + 1) mX8_prepare 437 [some (vR 41 r0), none, none, none, some (vI x4), none, none, some (vR 49 r7), some (vI x8)] [vI s2, vI s1, vR 216 q0] h Q := by
  unfold W_X8_prepare_437 at w
  obtain ⟨g_1, w⟩ := w
  obtain ⟨g_2, w⟩ := w
  refine jw_iast' (pc' := 438) rfl rfl rfl rfl rfl g_1 g_2 (fun h_3 e_4 => ?_)
  replace w := w h_3 e_4
  refine jw_iinc (pc' := 441) (y := x8 + (1 : Int32)) (ls' := [some (vR 41 r0), none, none, none, some (vI x4), none, none, some (vR 49 r7), some (vI (x8 + (1 : Int32)))]) rfl (by decide) rfl rfl rfl ?_
  refine jw_goto (pc' := 391) rfl rfl ?_
  exact hK391 _ _ _ _ _ w
def W_X8_prepare_435 (D : JD) (d : Nat) (Q : JO → JH → Prop) (K391 : Nat → Int32 → Nat → Int32 → JH → Prop) (r0 : Nat) (x4 : Int32) (r7 : Nat) (x8 : Int32) (q0 : Nat) (s1 : Int32) (h : JH) : Prop :=
  W_X8_prepare_437 D d Q K391 r0 x4 r7 x8 q0 s1 (25 : Int32) h
theorem w_X8_prepare_435 {D : JD} {d : Nat} {Q : JO → JH → Prop} {K391 : Nat → Int32 → Nat → Int32 → JH → Prop} {r0 : Nat} {x4 : Int32} {r7 : Nat} {x8 : Int32} {q0 : Nat} {s1 : Int32} {h : JH} (hK391 : ∀ (r0 : Nat) (x4 : Int32) (r7 : Nat) (x8 : Int32) (h : JH), K391 r0 x4 r7 x8 h → JW D (d + 1) mX8_prepare 391 [some (vR 41 r0), none, none, none, some (vI x4), none, none, some (vR 49 r7), some (vI x8)] [] h Q) (w : W_X8_prepare_435 D d Q K391 r0 x4 r7 x8 q0 s1 h) : JW D (d + 1) mX8_prepare 435 [some (vR 41 r0), none, none, none, some (vI x4), none, none, some (vR 49 r7), some (vI x8)] [vI s1, vR 216 q0] h Q := by
  unfold W_X8_prepare_435 at w
  refine jw_bipush (pc' := 437) (x := (25 : Int32)) rfl rfl ?_
  exact w_X8_prepare_437 hK391 w
def W_X8_prepare_391 (D : JD) (d : Nat) (Q : JO → JH → Prop) (K391 : Nat → Int32 → Nat → Int32 → JH → Prop) (r0 : Nat) (x4 : Int32) (r7 : Nat) (x8 : Int32) (h : JH) : Prop :=
  r7 ≠ 0 ∧ (((jfi h 318 r7) ≤ x8 → r0 ≠ 0 ∧ (cX8_empty D d r0 (49 : Int32) h (pV D h (fun h_4 => Q (.inl none) h_4) (jth Q)))) ∧ (¬ (jfi h 318 r7) ≤ x8 → (x4 ≤ x8 → W_X8_prepare_435 D d Q K391 r0 x4 r7 x8 (jfr h 317 r7) x8 h) ∧ (¬ x4 ≤ x8 → r0 ≠ 0 ∧ ((jfr h 242 r0) ≠ 0 ∧ jin x8 (jln h (jfr h 242 r0)) ∧ (((jai h (jfr h 242 r0) (ixn x8)) = 0 → W_X8_prepare_435 D d Q K391 r0 x4 r7 x8 (jfr h 317 r7) x8 h) ∧ (¬ (jai h (jfr h 242 r0) (ixn x8)) = 0 → jin x8 (jln h (jfr h 242 r0)) ∧ (W_X8_prepare_437 D d Q K391 r0 x4 r7 x8 (jfr h 317 r7) x8 (jai h (jfr h 242 r0) (ixn x8)) h)))))))
theorem w_X8_prepare_391 {D : JD} {d : Nat} {Q : JO → JH → Prop} {K391 : Nat → Int32 → Nat → Int32 → JH → Prop} {r0 : Nat} {x4 : Int32} {r7 : Nat} {x8 : Int32} {h : JH} (hK391 : ∀ (r0 : Nat) (x4 : Int32) (r7 : Nat) (x8 : Int32) (h : JH), K391 r0 x4 r7 x8 h → JW D (d + 1) mX8_prepare 391 [some (vR 41 r0), none, none, none, some (vI x4), none, none, some (vR 49 r7), some (vI x8)] [] h Q) (w : W_X8_prepare_391 D d Q K391 r0 x4 r7 x8 h) : JW D (d + 1) mX8_prepare 391 [some (vR 41 r0), none, none, none, some (vI x4), none, none, some (vR 49 r7), some (vI x8)] [] h Q := by
  unfold W_X8_prepare_391 at w
  refine jw_iload (pc' := 393) rfl rfl ?_
  refine jw_aload (pc' := 395) rfl rfl ?_
  obtain ⟨g_1, w⟩ := w
  refine jw_getI (pc' := 398) (F := 318) rfl rfl rfl rfl g_1 ?_
  refine jw_icmp_ge (tgt := 444) (pc' := 401) rfl rfl (fun c_2 => ?_) (fun c_2 => ?_)
  · replace w := w.1 c_2
    refine jw_aload_n (pc' := 445) rfl rfl ?_
    refine jw_bipush (pc' := 447) (x := (49 : Int32)) rfl rfl ?_
    obtain ⟨g_3, w⟩ := w
    refine jw_cV (st := []) (sa := [vR 41 r0, vI (49 : Int32)]) okX8_empty rfl rfl rfl rfl rfl rfl (jstp_virtual (sa := [vI (49 : Int32)]) (st := []) (k := 0) rfl rfl sX8_empty okX8_empty g_3 (one41.k g_3) rfl rfl) w (fun h_4 _ _ w => ?_)
    exact jw_return rfl rfl w
  · replace w := w.2 c_2
    refine jw_aload (pc' := 403) rfl rfl ?_
    refine jw_getR (pc' := 406) (F := 317) (t' := 216) rfl rfl rfl rfl rfl g_1 ?_
    refine jw_iload (pc' := 408) rfl rfl ?_
    refine jw_iload (pc' := 410) rfl rfl ?_
    refine jw_iload (pc' := 412) rfl rfl ?_
    refine jw_icmp_ge (tgt := 435) (pc' := 415) rfl rfl (fun c_7 => ?_) (fun c_7 => ?_)
    · replace w := w.1 c_7
      exact w_X8_prepare_435 hK391 w
    · replace w := w.2 c_7
      refine jw_aload_n (pc' := 416) rfl rfl ?_
      obtain ⟨g_8, w⟩ := w
      refine jw_getR (pc' := 419) (F := 242) (t' := 184) rfl rfl rfl rfl rfl g_8 ?_
      refine jw_iload (pc' := 421) rfl rfl ?_
      obtain ⟨g_9, w⟩ := w
      obtain ⟨g_10, w⟩ := w
      refine jw_iald (pc' := 422) rfl rfl rfl rfl g_9 g_10.ix g_10.2 ?_
      refine jw_if_eq (tgt := 435) (pc' := 425) rfl rfl (fun c_11 => ?_) (fun c_11 => ?_)
      · replace w := w.1 c_11
        exact w_X8_prepare_435 hK391 w
      · replace w := w.2 c_11
        refine jw_aload_n (pc' := 426) rfl rfl ?_
        refine jw_getR (pc' := 429) (F := 242) (t' := 184) rfl rfl rfl rfl rfl g_8 ?_
        refine jw_iload (pc' := 431) rfl rfl ?_
        obtain ⟨g_12, w⟩ := w
        refine jw_iald (pc' := 432) rfl rfl rfl rfl g_9 g_12.ix g_12.2 ?_
        refine jw_goto (pc' := 437) rfl rfl ?_
        exact w_X8_prepare_437 hK391 w
def L_X8_prepare_391 (D : JD) (d : Nat) (Q : JO → JH → Prop) : Nat → Nat → Int32 → Nat → Int32 → JH → Prop
  | 0 => fun _ _ _ _ _ => False
  | n + 1 => fun r0 x4 r7 x8 h => W_X8_prepare_391 D d Q (L_X8_prepare_391 D d Q n) r0 x4 r7 x8 h
theorem l_X8_prepare_391 {D : JD} {d : Nat} {Q : JO → JH → Prop} : ∀ (n : Nat) (r0 : Nat) (x4 : Int32) (r7 : Nat) (x8 : Int32) (h : JH), L_X8_prepare_391 D d Q n r0 x4 r7 x8 h → JW D (d + 1) mX8_prepare 391 [some (vR 41 r0), none, none, none, some (vI x4), none, none, some (vR 49 r7), some (vI x8)] [] h Q := by
  intro n
  induction n with
  | zero => intro _ _ _ _ _ w; exact w.elim
  | succ n ih => intro _ _ _ _ h w; exact w_X8_prepare_391 ih w
def W_X8_prepare_382 (D : JD) (d : Nat) (Q : JO → JH → Prop) (r0 : Nat) (x4 : Int32) (r7 : Nat) (q0 : Nat) (s1 : Int32) (s2 : Int32) (h : JH) : Prop :=
  cJ15_max D d s1 s2 h (pI D h (fun v_3 h_1 => q0 ≠ 0 ∧ ∀ h_5 : JH, h_5 = wfi h_1 318 q0 v_3 → (∃ n, L_X8_prepare_391 D d Q n r0 x4 r7 (0 : Int32) h_5)) (jth Q))
theorem w_X8_prepare_382 {D : JD} {d : Nat} {Q : JO → JH → Prop} {r0 : Nat} {x4 : Int32} {r7 : Nat} {q0 : Nat} {s1 : Int32} {s2 : Int32} {h : JH} (w : W_X8_prepare_382 D d Q r0 x4 r7 q0 s1 s2 h) : JW D (d + 1) mX8_prepare 382 [some (vR 41 r0), none, none, none, some (vI x4), none, none, some (vR 49 r7), none] [vI s2, vI s1, vR 49 q0] h Q := by
  unfold W_X8_prepare_382 at w
  refine jw_cI (st := [vR 49 q0]) (sa := [vI s1, vI s2]) okJ15_max rfl rfl rfl rfl rfl rfl (jstp_static (sa := [vI s1, vI s2]) (st := [vR 49 q0]) rfl rfl sJ15_max okJ15_max rfl rfl) w (fun v_3 h_1 _ _ w => ?_)
  obtain ⟨g_4, w⟩ := w
  refine jw_putI' (pc' := 388) (F := 318) rfl rfl rfl (Or.inr rfl) (Or.inl rfl) rfl (rfl) (rfl) rfl g_4 (fun h_5 e_6 => ?_)
  replace w := w h_5 e_6
  refine jw_iconst (pc' := 389) (x := (0 : Int32)) rfl rfl ?_
  refine jw_istore (pc' := 391) (ls' := [some (vR 41 r0), none, none, none, some (vI x4), none, none, some (vR 49 r7), some (vI (0 : Int32))]) rfl (by decide) rfl ?_
  obtain ⟨n, w⟩ := w
  exact l_X8_prepare_391 n _ _ _ _ _ w
def W_X8_prepare_342 (D : JD) (d : Nat) (Q : JO → JH → Prop) (r0 : Nat) (r1 : Nat) (x4 : Int32) (r5 : Nat) (x6 : Int32) (h : JH) : Prop :=
  r0 ≠ 0 ∧ ((jfr h 231 r0) ≠ 0 ∧ jin x6 (jln h (jfr h 231 r0)) ∧ ((jar h (jfr h 231 r0) (ixn x6)) ≠ 0 ∧ ∀ h_5 : JH, h_5 = wfr h 315 (jar h (jfr h 231 r0) (ixn x6)) r1 → (∀ h_7 : JH, h_7 = wfr h_5 316 (jar h (jfr h 231 r0) (ixn x6)) r5 → ((r5 ≠ 0 → W_X8_prepare_382 D d Q r0 x4 (jar h (jfr h 231 r0) (ixn x6)) (jar h (jfr h 231 r0) (ixn x6)) x4 (jfi h_7 299 r5) h_7) ∧ (r5 = 0 → W_X8_prepare_382 D d Q r0 x4 (jar h (jfr h 231 r0) (ixn x6)) (jar h (jfr h 231 r0) (ixn x6)) x4 (0 : Int32) h_7)))))
theorem w_X8_prepare_342 {D : JD} {d : Nat} {Q : JO → JH → Prop} {r0 : Nat} {r1 : Nat} {x4 : Int32} {r5 : Nat} {x6 : Int32} {h : JH} (w : W_X8_prepare_342 D d Q r0 r1 x4 r5 x6 h) : JW D (d + 1) mX8_prepare 342 [some (vR 41 r0), some (vR 64 r1), none, none, some (vI x4), some (vR 47 r5), some (vI x6), none, none] [] h Q := by
  unfold W_X8_prepare_342 at w
  refine jw_aload_n (pc' := 343) rfl rfl ?_
  obtain ⟨g_1, w⟩ := w
  refine jw_getR (pc' := 346) (F := 231) (t' := 181) rfl rfl rfl rfl rfl g_1 ?_
  refine jw_iload (pc' := 348) rfl rfl ?_
  obtain ⟨g_2, w⟩ := w
  obtain ⟨g_3, w⟩ := w
  refine jw_aald (pc' := 349) (t' := 49) rfl rfl rfl rfl g_2 g_3.ix g_3.2 ?_
  refine jw_astore (pc' := 351) (ls' := [some (vR 41 r0), some (vR 64 r1), none, none, some (vI x4), some (vR 47 r5), some (vI x6), some (vR 49 (jar h (jfr h 231 r0) (ixn x6))), none]) rfl (by decide) rfl ?_
  refine jw_aload (pc' := 353) rfl rfl ?_
  refine jw_aload_n (pc' := 354) rfl rfl ?_
  obtain ⟨g_4, w⟩ := w
  refine jw_putR' (pc' := 357) (F := 315) rfl rfl rfl (Or.inr rfl) (Or.inl rfl) rfl rfl rfl g_4 (fun h_5 e_6 => ?_)
  replace w := w h_5 e_6
  refine jw_aload (pc' := 359) rfl rfl ?_
  refine jw_aload (pc' := 361) rfl rfl ?_
  refine jw_putR' (pc' := 364) (F := 316) rfl rfl rfl (Or.inr rfl) (Or.inl rfl) rfl rfl rfl g_4 (fun h_7 e_8 => ?_)
  replace w := w h_7 e_8
  refine jw_aload (pc' := 366) rfl rfl ?_
  refine jw_iload (pc' := 368) rfl rfl ?_
  refine jw_aload (pc' := 370) rfl rfl ?_
  refine jw_ifnonnull (tgt := 377) (pc' := 373) rfl rfl (fun c_9 => ?_) (fun c_9 => ?_)
  · replace w := w.1 c_9
    refine jw_aload (pc' := 379) rfl rfl ?_
    refine jw_getI (pc' := 382) (F := 299) rfl rfl rfl rfl c_9 ?_
    refine jw_gen (ls' := [some (vR 41 r0), none, none, none, some (vI x4), none, none, some (vR 49 (jar h (jfr h 231 r0) (ixn x6))), none]) (st' := [vI (jfi h_7 299 r5), vI x4, vR 49 (jar h (jfr h 231 r0) (ixn x6))]) (And.intro (Or.inl rfl) (And.intro (Or.inl rfl) (And.intro (Or.inl rfl) (trivial)))) (And.intro (Or.inl rfl) (And.intro (Or.inl rfl) (And.intro (Or.inl rfl) (trivial)))) ?_
    exact w_X8_prepare_382 w
  · replace w := w.2 c_9
    refine jw_iconst (pc' := 374) (x := (0 : Int32)) rfl rfl ?_
    refine jw_goto (pc' := 382) rfl rfl ?_
    refine jw_gen (ls' := [some (vR 41 r0), none, none, none, some (vI x4), none, none, some (vR 49 (jar h (jfr h 231 r0) (ixn x6))), none]) (st' := [vI (0 : Int32), vI x4, vR 49 (jar h (jfr h 231 r0) (ixn x6))]) (And.intro (Or.inl rfl) (And.intro (Or.inl rfl) (And.intro (Or.inl rfl) (trivial)))) (And.intro (Or.inl rfl) (And.intro (Or.inl rfl) (And.intro (Or.inl rfl) (trivial)))) ?_
    exact w_X8_prepare_382 w
def W_X8_prepare_291 (D : JD) (d : Nat) (Q : JO → JH → Prop) (r0 : Nat) (r1 : Nat) (x4 : Int32) (r5 : Nat) (x6 : Int32) (q0 : Nat) (s1 : Int32) (h : JH) : Prop :=
  q0 ≠ 0 ∧ (cX8_must D d q0 s1 (jcs D 302) h (pV D h (fun h_2 => (0 ≤ x6 → W_X8_prepare_342 D d Q r0 r1 x4 r5 x6 h_2) ∧ (¬ 0 ≤ x6 → r0 ≠ 0 ∧ (∀ h_7 : JH, h_7 = wfi h_2 232 r0 ((jfi h_2 232 r0) + (1 : Int32)) → ((jfr h_7 231 r0) ≠ 0 ∧ jin (jfi h_2 232 r0) (jln h_7 (jfr h_7 231 r0)) ∧ (((jar h_7 (jfr h_7 231 r0) (ixn (jfi h_2 232 r0))) ≠ 0 → W_X8_prepare_342 D d Q r0 r1 x4 r5 (jfi h_2 232 r0) h_7) ∧ ((jar h_7 (jfr h_7 231 r0) (ixn (jfi h_2 232 r0))) = 0 → ∀ (r_12 : Nat) (h_13 : JH), r_12 = jsz h_7 + 1 → h_13 = nwo h_7 49 4 → (cX47_init D d r_12 h_13 (pV D h_13 (fun h_16 => jin (jfi h_2 232 r0) (jln h_16 (jfr h_7 231 r0)) ∧ ∀ h_20 : JH, h_20 = war h_16 (jfr h_7 231 r0) (ixn (jfi h_2 232 r0)) r_12 → (W_X8_prepare_342 D d Q r0 r1 x4 r5 (jfi h_2 232 r0) h_20)) (jth Q))))))))) (jth Q)))
theorem w_X8_prepare_291 {D : JD} {d : Nat} {Q : JO → JH → Prop} {r0 : Nat} {r1 : Nat} {x4 : Int32} {r5 : Nat} {x6 : Int32} {q0 : Nat} {s1 : Int32} {h : JH} (w : W_X8_prepare_291 D d Q r0 r1 x4 r5 x6 q0 s1 h) : JW D (d + 1) mX8_prepare 291 [some (vR 41 r0), some (vR 64 r1), none, none, some (vI x4), some (vR 47 r5), some (vI x6), none, none] [vI s1, vR 41 q0] h Q := by
  unfold W_X8_prepare_291 at w
  refine jw_ldcwS (pc' := 294) rfl rfl rfl rfl ?_
  obtain ⟨g_1, w⟩ := w
  refine jw_cV (st := []) (sa := [vR 41 q0, vI s1, vR 51 (jcs D 302)]) okX8_must rfl rfl rfl rfl rfl rfl (jstp_virtual (sa := [vI s1, vR 51 (jcs D 302)]) (st := []) (k := 0) rfl rfl sX8_must okX8_must g_1 (one41.k g_1) rfl rfl) w (fun h_2 _ _ w => ?_)
  refine jw_iload (pc' := 299) rfl rfl ?_
  refine jw_if_ge (tgt := 342) (pc' := 302) rfl rfl (fun c_5 => ?_) (fun c_5 => ?_)
  · replace w := w.1 c_5
    exact w_X8_prepare_342 w
  · replace w := w.2 c_5
    refine jw_aload_n (pc' := 303) rfl rfl ?_
    obtain ⟨g_6, w⟩ := w
    refine jw_getI (pc' := 306) (F := 232) rfl rfl rfl rfl g_6 ?_
    refine jw_istore (pc' := 308) (ls' := [some (vR 41 r0), some (vR 64 r1), none, none, some (vI x4), some (vR 47 r5), some (vI (jfi h_2 232 r0)), none, none]) rfl (by decide) rfl ?_
    refine jw_aload_n (pc' := 309) rfl rfl ?_
    refine jw_dup (pc' := 310) rfl rfl ?_
    refine jw_getI (pc' := 313) (F := 232) rfl rfl rfl rfl g_6 ?_
    refine jw_iconst (pc' := 314) (x := (1 : Int32)) rfl rfl ?_
    refine jw_iadd (pc' := 315) rfl ?_
    refine jw_putI' (pc' := 318) (F := 232) rfl rfl rfl (Or.inr rfl) (Or.inl rfl) rfl (rfl) (rfl) rfl g_6 (fun h_7 e_8 => ?_)
    replace w := w h_7 e_8
    refine jw_aload_n (pc' := 319) rfl rfl ?_
    refine jw_getR (pc' := 322) (F := 231) (t' := 181) rfl rfl rfl rfl rfl g_6 ?_
    refine jw_iload (pc' := 324) rfl rfl ?_
    obtain ⟨g_9, w⟩ := w
    obtain ⟨g_10, w⟩ := w
    refine jw_aald (pc' := 325) (t' := 49) rfl rfl rfl rfl g_9 g_10.ix g_10.2 ?_
    refine jw_ifnonnull (tgt := 342) (pc' := 328) rfl rfl (fun c_11 => ?_) (fun c_11 => ?_)
    · replace w := w.1 c_11
      exact w_X8_prepare_342 w
    · replace w := w.2 c_11
      refine jw_aload_n (pc' := 329) rfl rfl ?_
      refine jw_getR (pc' := 332) (F := 231) (t' := 181) rfl rfl rfl rfl rfl g_6 ?_
      refine jw_iload (pc' := 334) rfl rfl ?_
      refine jw_new' (pc' := 337) (k := 49) (n := 4) rfl rfl rfl rfl rfl rfl rfl (fun r_12 h_13 e_14 e_15 => ?_)
      replace w := w r_12 h_13 e_14 e_15
      refine jw_dup (pc' := 338) rfl rfl ?_
      refine jw_cV (st := [vR 49 r_12, vI (jfi h_2 232 r0), vR 181 (jfr h_7 231 r0)]) (sa := [vR 49 r_12]) okX47_init rfl rfl rfl rfl rfl rfl (jstp_init (sa := []) (st := [vR 49 r_12, vI (jfi h_2 232 r0), vR 181 (jfr h_7 231 r0)]) rfl rfl sX47_init okX47_init (lw_g (jtb_mem (c := 21) (i := 51) rfl) rfl) (jnz e_14) rfl rfl) w (fun h_16 _ _ w => ?_)
      obtain ⟨g_19, w⟩ := w
      refine jw_aast' (pc' := 342) rfl rfl rfl rfl rfl rfl g_9 g_19 (fun h_20 e_21 => ?_)
      replace w := w h_20 e_21
      exact w_X8_prepare_342 w
def W_X8_prepare_286 (D : JD) (d : Nat) (Q : JO → JH → Prop) (r0 : Nat) (r1 : Nat) (x4 : Int32) (r5 : Nat) (x6 : Int32) (q0 : Nat) (h : JH) : Prop :=
  W_X8_prepare_291 D d Q r0 r1 x4 r5 x6 q0 (1 : Int32) h
theorem w_X8_prepare_286 {D : JD} {d : Nat} {Q : JO → JH → Prop} {r0 : Nat} {r1 : Nat} {x4 : Int32} {r5 : Nat} {x6 : Int32} {q0 : Nat} {h : JH} (w : W_X8_prepare_286 D d Q r0 r1 x4 r5 x6 q0 h) : JW D (d + 1) mX8_prepare 286 [some (vR 41 r0), some (vR 64 r1), none, none, some (vI x4), some (vR 47 r5), some (vI x6), none, none] [vR 41 q0] h Q := by
  unfold W_X8_prepare_286 at w
  refine jw_iconst (pc' := 287) (x := (1 : Int32)) rfl rfl ?_
  refine jw_goto (pc' := 291) rfl rfl ?_
  exact w_X8_prepare_291 w
def W_X8_prepare_265 (D : JD) (d : Nat) (Q : JO → JH → Prop) (r0 : Nat) (r1 : Nat) (x4 : Int32) (r5 : Nat) (x6 : Int32) (q0 : Nat) (s1 : Int32) (h : JH) : Prop :=
  q0 ≠ 0 ∧ (cX8_must D d q0 s1 (jcs D 336) h (pV D h (fun h_2 => (0 ≤ x6 → W_X8_prepare_286 D d Q r0 r1 x4 r5 x6 r0 h_2) ∧ (¬ 0 ≤ x6 → r0 ≠ 0 ∧ (((10 : Int32) ≤ (jfi h_2 232 r0) → W_X8_prepare_291 D d Q r0 r1 x4 r5 x6 r0 (0 : Int32) h_2) ∧ (¬ (10 : Int32) ≤ (jfi h_2 232 r0) → W_X8_prepare_286 D d Q r0 r1 x4 r5 x6 r0 h_2)))) (jth Q)))
theorem w_X8_prepare_265 {D : JD} {d : Nat} {Q : JO → JH → Prop} {r0 : Nat} {r1 : Nat} {x4 : Int32} {r5 : Nat} {x6 : Int32} {q0 : Nat} {s1 : Int32} {h : JH} (w : W_X8_prepare_265 D d Q r0 r1 x4 r5 x6 q0 s1 h) : JW D (d + 1) mX8_prepare 265 [some (vR 41 r0), some (vR 64 r1), none, none, some (vI x4), some (vR 47 r5), some (vI x6), none, none] [vI s1, vR 41 q0] h Q := by
  unfold W_X8_prepare_265 at w
  refine jw_ldcwS (pc' := 268) rfl rfl rfl rfl ?_
  obtain ⟨g_1, w⟩ := w
  refine jw_cV (st := []) (sa := [vR 41 q0, vI s1, vR 51 (jcs D 336)]) okX8_must rfl rfl rfl rfl rfl rfl (jstp_virtual (sa := [vI s1, vR 51 (jcs D 336)]) (st := []) (k := 0) rfl rfl sX8_must okX8_must g_1 (one41.k g_1) rfl rfl) w (fun h_2 _ _ w => ?_)
  refine jw_aload_n (pc' := 272) rfl rfl ?_
  refine jw_iload (pc' := 274) rfl rfl ?_
  refine jw_if_ge (tgt := 286) (pc' := 277) rfl rfl (fun c_5 => ?_) (fun c_5 => ?_)
  · replace w := w.1 c_5
    exact w_X8_prepare_286 w
  · replace w := w.2 c_5
    refine jw_aload_n (pc' := 278) rfl rfl ?_
    obtain ⟨g_6, w⟩ := w
    refine jw_getI (pc' := 281) (F := 232) rfl rfl rfl rfl g_6 ?_
    refine jw_bipush (pc' := 283) (x := (10 : Int32)) rfl rfl ?_
    refine jw_icmp_ge (tgt := 290) (pc' := 286) rfl rfl (fun c_7 => ?_) (fun c_7 => ?_)
    · replace w := w.1 c_7
      refine jw_iconst (pc' := 291) (x := (0 : Int32)) rfl rfl ?_
      exact w_X8_prepare_291 w
    · replace w := w.2 c_7
      exact w_X8_prepare_286 w
def W_X8_prepare_260 (D : JD) (d : Nat) (Q : JO → JH → Prop) (r0 : Nat) (r1 : Nat) (x4 : Int32) (r5 : Nat) (x6 : Int32) (q0 : Nat) (h : JH) : Prop :=
  W_X8_prepare_265 D d Q r0 r1 x4 r5 x6 q0 (1 : Int32) h
theorem w_X8_prepare_260 {D : JD} {d : Nat} {Q : JO → JH → Prop} {r0 : Nat} {r1 : Nat} {x4 : Int32} {r5 : Nat} {x6 : Int32} {q0 : Nat} {h : JH} (w : W_X8_prepare_260 D d Q r0 r1 x4 r5 x6 q0 h) : JW D (d + 1) mX8_prepare 260 [some (vR 41 r0), some (vR 64 r1), none, none, some (vI x4), some (vR 47 r5), some (vI x6), none, none] [vR 41 q0] h Q := by
  unfold W_X8_prepare_260 at w
  refine jw_iconst (pc' := 261) (x := (1 : Int32)) rfl rfl ?_
  refine jw_goto (pc' := 265) rfl rfl ?_
  exact w_X8_prepare_265 w
def W_X8_prepare_237 (D : JD) (d : Nat) (Q : JO → JH → Prop) (r0 : Nat) (r1 : Nat) (x4 : Int32) (r5 : Nat) (q0 : Nat) (s1 : Int32) (h : JH) : Prop :=
  q0 ≠ 0 ∧ (cX8_can D d q0 s1 h (pV D h (fun h_2 => r0 ≠ 0 ∧ (cX8_findPrepared D d r0 r1 h_2 (pI D h_2 (fun v_8 h_6 => (v_8 < 0 → W_X8_prepare_260 D d Q r0 r1 x4 r5 v_8 r0 h_6) ∧ (¬ v_8 < 0 → r1 ≠ 0 ∧ (cJ5_length D d r1 h_6 (pI D h_6 (fun v_13 h_11 => (¬ v_13 = 0 → W_X8_prepare_265 D d Q r0 r1 x4 r5 v_8 r0 (0 : Int32) h_11) ∧ (v_13 = 0 → W_X8_prepare_260 D d Q r0 r1 x4 r5 v_8 r0 h_11)) (jth Q))))) (jth Q)))) (jth Q)))
theorem w_X8_prepare_237 {D : JD} {d : Nat} {Q : JO → JH → Prop} {r0 : Nat} {r1 : Nat} {x4 : Int32} {r5 : Nat} {q0 : Nat} {s1 : Int32} {h : JH} (w : W_X8_prepare_237 D d Q r0 r1 x4 r5 q0 s1 h) : JW D (d + 1) mX8_prepare 237 [some (vR 41 r0), some (vR 64 r1), none, none, some (vI x4), some (vR 47 r5), none, none, none] [vI s1, vR 41 q0] h Q := by
  unfold W_X8_prepare_237 at w
  obtain ⟨g_1, w⟩ := w
  refine jw_cV (st := []) (sa := [vR 41 q0, vI s1]) okX8_can rfl rfl rfl rfl rfl rfl (jstp_virtual (sa := [vI s1]) (st := []) (k := 0) rfl rfl sX8_can okX8_can g_1 (one41.k g_1) rfl rfl) w (fun h_2 _ _ w => ?_)
  refine jw_aload_n (pc' := 241) rfl rfl ?_
  refine jw_aload_n (pc' := 242) rfl rfl ?_
  obtain ⟨g_5, w⟩ := w
  refine jw_cI (st := []) (sa := [vR 41 r0, vR 64 r1]) okX8_findPrepared rfl rfl rfl rfl rfl rfl (jstp_virtual (sa := [vR 64 r1]) (st := []) (k := 0) rfl rfl sX8_findPrepared okX8_findPrepared g_5 (one41.k g_5) rfl rfl) w (fun v_8 h_6 _ _ w => ?_)
  refine jw_istore (pc' := 247) (ls' := [some (vR 41 r0), some (vR 64 r1), none, none, some (vI x4), some (vR 47 r5), some (vI v_8), none, none]) rfl (by decide) rfl ?_
  refine jw_aload_n (pc' := 248) rfl rfl ?_
  refine jw_iload (pc' := 250) rfl rfl ?_
  refine jw_if_lt (tgt := 260) (pc' := 253) rfl rfl (fun c_9 => ?_) (fun c_9 => ?_)
  · replace w := w.1 c_9
    exact w_X8_prepare_260 w
  · replace w := w.2 c_9
    refine jw_aload_n (pc' := 254) rfl rfl ?_
    obtain ⟨g_10, w⟩ := w
    refine jw_cI (st := [vR 41 r0]) (sa := [vR 64 r1]) okJ5_length rfl rfl rfl rfl rfl rfl (jstp_virtual (sa := []) (st := [vR 41 r0]) (k := 0) rfl rfl sJ5_length okJ5_length g_10 (one64.k g_10) rfl rfl) w (fun v_13 h_11 _ _ w => ?_)
    refine jw_if_ne (tgt := 264) (pc' := 260) rfl rfl (fun c_14 => ?_) (fun c_14 => ?_)
    · replace w := w.1 c_14
      refine jw_iconst (pc' := 265) (x := (0 : Int32)) rfl rfl ?_
      exact w_X8_prepare_265 w
    · replace w := w.2 c_14
      exact w_X8_prepare_260 w
def W_X8_prepare_211 (D : JD) (d : Nat) (Q : JO → JH → Prop) (K211 : Nat → Nat → Int32 → Nat → JH → Prop) (r0 : Nat) (r1 : Nat) (x4 : Int32) (r5 : Nat) (h : JH) : Prop :=
  r0 ≠ 0 ∧ (cX8_take D d r0 (jcs D 235) h (pI D h (fun v_4 h_2 => (v_4 = 0 → (¬ (jfi h_2 183 r0) = 0 → W_X8_prepare_237 D d Q r0 r1 x4 r5 r0 (0 : Int32) h_2) ∧ ((jfi h_2 183 r0) = 0 → W_X8_prepare_237 D d Q r0 r1 x4 r5 r0 (1 : Int32) h_2)) ∧ (¬ v_4 = 0 → K211 r0 r1 x4 r5 h_2)) (jth Q)))
theorem w_X8_prepare_211 {D : JD} {d : Nat} {Q : JO → JH → Prop} {K211 : Nat → Nat → Int32 → Nat → JH → Prop} {r0 : Nat} {r1 : Nat} {x4 : Int32} {r5 : Nat} {h : JH} (hK211 : ∀ (r0 : Nat) (r1 : Nat) (x4 : Int32) (r5 : Nat) (h : JH), K211 r0 r1 x4 r5 h → JW D (d + 1) mX8_prepare 211 [some (vR 41 r0), some (vR 64 r1), none, none, some (vI x4), some (vR 47 r5), none, none, none] [] h Q) (w : W_X8_prepare_211 D d Q K211 r0 r1 x4 r5 h) : JW D (d + 1) mX8_prepare 211 [some (vR 41 r0), some (vR 64 r1), none, none, some (vI x4), some (vR 47 r5), none, none, none] [] h Q := by
  unfold W_X8_prepare_211 at w
  refine jw_aload_n (pc' := 212) rfl rfl ?_
  refine jw_ldcwS (pc' := 215) rfl rfl rfl rfl ?_
  obtain ⟨g_1, w⟩ := w
  refine jw_cI (st := []) (sa := [vR 41 r0, vR 51 (jcs D 235)]) okX8_take rfl rfl rfl rfl rfl rfl (jstp_virtual (sa := [vR 51 (jcs D 235)]) (st := []) (k := 0) rfl rfl sX8_take okX8_take g_1 (one41.k g_1) rfl rfl) w (fun v_4 h_2 _ _ w => ?_)
  refine jw_if_eq (tgt := 224) (pc' := 221) rfl rfl (fun c_5 => ?_) (fun c_5 => ?_)
  · replace w := w.1 c_5
    refine jw_aload_n (pc' := 225) rfl rfl ?_
    refine jw_aload_n (pc' := 226) rfl rfl ?_
    refine jw_getI (pc' := 229) (F := 183) rfl rfl rfl rfl g_1 ?_
    refine jw_if_ne (tgt := 236) (pc' := 232) rfl rfl (fun c_6 => ?_) (fun c_6 => ?_)
    · replace w := w.1 c_6
      refine jw_iconst (pc' := 237) (x := (0 : Int32)) rfl rfl ?_
      exact w_X8_prepare_237 w
    · replace w := w.2 c_6
      refine jw_iconst (pc' := 233) (x := (1 : Int32)) rfl rfl ?_
      refine jw_goto (pc' := 237) rfl rfl ?_
      exact w_X8_prepare_237 w
  · replace w := w.2 c_5
    refine jw_goto (pc' := 211) rfl rfl ?_
    exact hK211 _ _ _ _ _ w
def L_X8_prepare_211 (D : JD) (d : Nat) (Q : JO → JH → Prop) : Nat → Nat → Nat → Int32 → Nat → JH → Prop
  | 0 => fun _ _ _ _ _ => False
  | n + 1 => fun r0 r1 x4 r5 h => W_X8_prepare_211 D d Q (L_X8_prepare_211 D d Q n) r0 r1 x4 r5 h
theorem l_X8_prepare_211 {D : JD} {d : Nat} {Q : JO → JH → Prop} : ∀ (n : Nat) (r0 : Nat) (r1 : Nat) (x4 : Int32) (r5 : Nat) (h : JH), L_X8_prepare_211 D d Q n r0 r1 x4 r5 h → JW D (d + 1) mX8_prepare 211 [some (vR 41 r0), some (vR 64 r1), none, none, some (vI x4), some (vR 47 r5), none, none, none] [] h Q := by
  intro n
  induction n with
  | zero => intro _ _ _ _ _ w; exact w.elim
  | succ n ih => intro _ _ _ _ h w; exact w_X8_prepare_211 ih w
def W_X8_prepare_208 (D : JD) (d : Nat) (Q : JO → JH → Prop) (r0 : Nat) (r1 : Nat) (x4 : Int32) (r5 : Nat) (q0 : Nat) (s1 : Int32) (h : JH) : Prop :=
  q0 ≠ 0 ∧ (cX8_can D d q0 s1 h (pV D h (fun h_2 => ∃ n, L_X8_prepare_211 D d Q n r0 r1 x4 r5 h_2) (jth Q)))
theorem w_X8_prepare_208 {D : JD} {d : Nat} {Q : JO → JH → Prop} {r0 : Nat} {r1 : Nat} {x4 : Int32} {r5 : Nat} {q0 : Nat} {s1 : Int32} {h : JH} (w : W_X8_prepare_208 D d Q r0 r1 x4 r5 q0 s1 h) : JW D (d + 1) mX8_prepare 208 [some (vR 41 r0), some (vR 64 r1), none, none, some (vI x4), some (vR 47 r5), none, none, none] [vI s1, vR 41 q0] h Q := by
  unfold W_X8_prepare_208 at w
  obtain ⟨g_1, w⟩ := w
  refine jw_cV (st := []) (sa := [vR 41 q0, vI s1]) okX8_can rfl rfl rfl rfl rfl rfl (jstp_virtual (sa := [vI s1]) (st := []) (k := 0) rfl rfl sX8_can okX8_can g_1 (one41.k g_1) rfl rfl) w (fun h_2 _ _ w => ?_)
  obtain ⟨n, w⟩ := w
  exact l_X8_prepare_211 n _ _ _ _ _ w
def W_X8_prepare_203 (D : JD) (d : Nat) (Q : JO → JH → Prop) (r0 : Nat) (r1 : Nat) (x4 : Int32) (r5 : Nat) (q0 : Nat) (h : JH) : Prop :=
  W_X8_prepare_208 D d Q r0 r1 x4 r5 q0 (1 : Int32) h
theorem w_X8_prepare_203 {D : JD} {d : Nat} {Q : JO → JH → Prop} {r0 : Nat} {r1 : Nat} {x4 : Int32} {r5 : Nat} {q0 : Nat} {h : JH} (w : W_X8_prepare_203 D d Q r0 r1 x4 r5 q0 h) : JW D (d + 1) mX8_prepare 203 [some (vR 41 r0), some (vR 64 r1), none, none, some (vI x4), some (vR 47 r5), none, none, none] [vR 41 q0] h Q := by
  unfold W_X8_prepare_203 at w
  refine jw_iconst (pc' := 204) (x := (1 : Int32)) rfl rfl ?_
  refine jw_goto (pc' := 208) rfl rfl ?_
  exact w_X8_prepare_208 w
def W_X8_prepare_185 (D : JD) (d : Nat) (Q : JO → JH → Prop) (r0 : Nat) (r1 : Nat) (x4 : Int32) (r5 : Nat) (h : JH) : Prop :=
  r0 ≠ 0 ∧ (((jfi h 183 r0) = 0 → W_X8_prepare_203 D d Q r0 r1 x4 r5 r0 h) ∧ (¬ (jfi h 183 r0) = 0 → cX8_is D d r0 (jcs D 235) h (pI D h (fun v_5 h_3 => (v_5 = 0 → W_X8_prepare_208 D d Q r0 r1 x4 r5 r0 (0 : Int32) h_3) ∧ (¬ v_5 = 0 → W_X8_prepare_203 D d Q r0 r1 x4 r5 r0 h_3)) (jth Q))))
theorem w_X8_prepare_185 {D : JD} {d : Nat} {Q : JO → JH → Prop} {r0 : Nat} {r1 : Nat} {x4 : Int32} {r5 : Nat} {h : JH} (w : W_X8_prepare_185 D d Q r0 r1 x4 r5 h) : JW D (d + 1) mX8_prepare 185 [some (vR 41 r0), some (vR 64 r1), none, none, some (vI x4), some (vR 47 r5), none, none, none] [] h Q := by
  unfold W_X8_prepare_185 at w
  refine jw_aload_n (pc' := 186) rfl rfl ?_
  refine jw_aload_n (pc' := 187) rfl rfl ?_
  obtain ⟨g_1, w⟩ := w
  refine jw_getI (pc' := 190) (F := 183) rfl rfl rfl rfl g_1 ?_
  refine jw_if_eq (tgt := 203) (pc' := 193) rfl rfl (fun c_2 => ?_) (fun c_2 => ?_)
  · replace w := w.1 c_2
    exact w_X8_prepare_203 w
  · replace w := w.2 c_2
    refine jw_aload_n (pc' := 194) rfl rfl ?_
    refine jw_ldcwS (pc' := 197) rfl rfl rfl rfl ?_
    refine jw_cI (st := [vR 41 r0]) (sa := [vR 41 r0, vR 51 (jcs D 235)]) okX8_is rfl rfl rfl rfl rfl rfl (jstp_virtual (sa := [vR 51 (jcs D 235)]) (st := [vR 41 r0]) (k := 0) rfl rfl sX8_is okX8_is g_1 (one41.k g_1) rfl rfl) w (fun v_5 h_3 _ _ w => ?_)
    refine jw_if_eq (tgt := 207) (pc' := 203) rfl rfl (fun c_6 => ?_) (fun c_6 => ?_)
    · replace w := w.1 c_6
      refine jw_iconst (pc' := 208) (x := (0 : Int32)) rfl rfl ?_
      exact w_X8_prepare_208 w
    · replace w := w.2 c_6
      exact w_X8_prepare_203 w
def W_X8_prepare_151 (D : JD) (d : Nat) (Q : JO → JH → Prop) (K151 : Nat → Nat → Int32 → JH → Prop) (r0 : Nat) (r1 : Nat) (x4 : Int32) (h : JH) : Prop :=
  r0 ≠ 0 ∧ (cX8_take D d r0 (jcs D 235) h (pI D h (fun v_4 h_2 => (v_4 = 0 → ((jfi h_2 183 r0) = 0 → W_X8_prepare_185 D d Q r0 r1 x4 0 h_2) ∧ (¬ (jfi h_2 183 r0) = 0 → cX8_spare D d r0 h_2 (pR D h_2 47 (fun v_9 h_7 => ∀ h_10 : JH, h_10 = wfr h_7 191 r0 v_9 → (cX8_statement D d r0 h_10 (pR D h_10 47 (fun v_14 h_12 => W_X8_prepare_185 D d Q r0 r1 x4 v_14 h_12) (jth Q)))) (jth Q)))) ∧ (¬ v_4 = 0 → K151 r0 r1 x4 h_2)) (jth Q)))
theorem w_X8_prepare_151 {D : JD} {d : Nat} {Q : JO → JH → Prop} {K151 : Nat → Nat → Int32 → JH → Prop} {r0 : Nat} {r1 : Nat} {x4 : Int32} {h : JH} (hK151 : ∀ (r0 : Nat) (r1 : Nat) (x4 : Int32) (h : JH), K151 r0 r1 x4 h → JW D (d + 1) mX8_prepare 151 [some (vR 41 r0), some (vR 64 r1), none, none, some (vI x4), some (vR 95 0), none, none, none] [] h Q) (w : W_X8_prepare_151 D d Q K151 r0 r1 x4 h) : JW D (d + 1) mX8_prepare 151 [some (vR 41 r0), some (vR 64 r1), none, none, some (vI x4), some (vR 95 0), none, none, none] [] h Q := by
  unfold W_X8_prepare_151 at w
  refine jw_aload_n (pc' := 152) rfl rfl ?_
  refine jw_ldcwS (pc' := 155) rfl rfl rfl rfl ?_
  obtain ⟨g_1, w⟩ := w
  refine jw_cI (st := []) (sa := [vR 41 r0, vR 51 (jcs D 235)]) okX8_take rfl rfl rfl rfl rfl rfl (jstp_virtual (sa := [vR 51 (jcs D 235)]) (st := []) (k := 0) rfl rfl sX8_take okX8_take g_1 (one41.k g_1) rfl rfl) w (fun v_4 h_2 _ _ w => ?_)
  refine jw_if_eq (tgt := 164) (pc' := 161) rfl rfl (fun c_5 => ?_) (fun c_5 => ?_)
  · replace w := w.1 c_5
    refine jw_aload_n (pc' := 165) rfl rfl ?_
    refine jw_getI (pc' := 168) (F := 183) rfl rfl rfl rfl g_1 ?_
    refine jw_if_eq (tgt := 185) (pc' := 171) rfl rfl (fun c_6 => ?_) (fun c_6 => ?_)
    · replace w := w.1 c_6
      refine jw_gen (ls' := [some (vR 41 r0), some (vR 64 r1), none, none, some (vI x4), some (vR 47 0), none, none, none]) (st' := []) (And.intro (Or.inl rfl) (And.intro (Or.inl rfl) (And.intro (Or.inl rfl) (And.intro (Or.inr ⟨_, _, _, rfl, rfl, Or.inl rfl⟩) (trivial))))) (trivial) ?_
      exact w_X8_prepare_185 w
    · replace w := w.2 c_6
      refine jw_aload_n (pc' := 172) rfl rfl ?_
      refine jw_aload_n (pc' := 173) rfl rfl ?_
      refine jw_cR (st := [vR 41 r0]) (sa := [vR 41 r0]) okX8_spare rfl rfl rfl rfl rfl rfl (jstp_virtual (sa := []) (st := [vR 41 r0]) (k := 0) rfl rfl sX8_spare okX8_spare g_1 (one41.k g_1) rfl rfl) w (fun v_9 h_7 _ _ _ w => ?_)
      refine jw_putR' (pc' := 179) (F := 191) rfl rfl rfl (Or.inr rfl) (Or.inl rfl) rfl rfl rfl g_1 (fun h_10 e_11 => ?_)
      replace w := w h_10 e_11
      refine jw_aload_n (pc' := 180) rfl rfl ?_
      refine jw_cR (st := []) (sa := [vR 41 r0]) okX8_statement rfl rfl rfl rfl rfl rfl (jstp_virtual (sa := []) (st := []) (k := 0) rfl rfl sX8_statement okX8_statement g_1 (one41.k g_1) rfl rfl) w (fun v_14 h_12 _ _ _ w => ?_)
      refine jw_astore (pc' := 185) (ls' := [some (vR 41 r0), some (vR 64 r1), none, none, some (vI x4), some (vR 47 v_14), none, none, none]) rfl (by decide) rfl ?_
      exact w_X8_prepare_185 w
  · replace w := w.2 c_5
    refine jw_goto (pc' := 151) rfl rfl ?_
    exact hK151 _ _ _ _ w
def L_X8_prepare_151 (D : JD) (d : Nat) (Q : JO → JH → Prop) : Nat → Nat → Nat → Int32 → JH → Prop
  | 0 => fun _ _ _ _ => False
  | n + 1 => fun r0 r1 x4 h => W_X8_prepare_151 D d Q (L_X8_prepare_151 D d Q n) r0 r1 x4 h
theorem l_X8_prepare_151 {D : JD} {d : Nat} {Q : JO → JH → Prop} : ∀ (n : Nat) (r0 : Nat) (r1 : Nat) (x4 : Int32) (h : JH), L_X8_prepare_151 D d Q n r0 r1 x4 h → JW D (d + 1) mX8_prepare 151 [some (vR 41 r0), some (vR 64 r1), none, none, some (vI x4), some (vR 95 0), none, none, none] [] h Q := by
  intro n
  induction n with
  | zero => intro _ _ _ _ w; exact w.elim
  | succ n ih => intro _ _ _ h w; exact w_X8_prepare_151 ih w
def W_X8_prepare_133 (D : JD) (d : Nat) (Q : JO → JH → Prop) (K63 : Nat → Nat → Int32 → Int32 → Int32 → Int32 → JH → Prop) (r0 : Nat) (r1 : Nat) (x2 : Int32) (x3 : Int32) (x4 : Int32) (x5 : Int32) (q0 : Nat) (s1 : Int32) (h : JH) : Prop :=
  q0 ≠ 0 ∧ (cX8_whole D d q0 s1 h (pV D h (fun h_2 => K63 r0 r1 x2 x3 x4 (x5 + (1 : Int32)) h_2) (jth Q)))
theorem w_X8_prepare_133 {D : JD} {d : Nat} {Q : JO → JH → Prop} {K63 : Nat → Nat → Int32 → Int32 → Int32 → Int32 → JH → Prop} {r0 : Nat} {r1 : Nat} {x2 : Int32} {x3 : Int32} {x4 : Int32} {x5 : Int32} {q0 : Nat} {s1 : Int32} {h : JH} (hK63 : ∀ (r0 : Nat) (r1 : Nat) (x2 : Int32) (x3 : Int32) (x4 : Int32) (x5 : Int32) (h : JH), K63 r0 r1 x2 x3 x4 x5 h → JW D (d + 1) mX8_prepare 63 [some (vR 41 r0), some (vR 64 r1), some (vI x2), some (vI x3), some (vI x4), some (vI x5), none, none, none] [] h Q) (w : W_X8_prepare_133 D d Q K63 r0 r1 x2 x3 x4 x5 q0 s1 h) : JW D (d + 1) mX8_prepare 133 [some (vR 41 r0), some (vR 64 r1), some (vI x2), some (vI x3), some (vI x4), some (vI x5), none, none, none] [vI s1, vR 41 q0] h Q := by
  unfold W_X8_prepare_133 at w
  obtain ⟨g_1, w⟩ := w
  refine jw_cV (st := []) (sa := [vR 41 q0, vI s1]) okX8_whole rfl rfl rfl rfl rfl rfl (jstp_virtual (sa := [vI s1]) (st := []) (k := 0) rfl rfl sX8_whole okX8_whole g_1 (one41.k g_1) rfl rfl) w (fun h_2 _ _ w => ?_)
  refine jw_iinc (pc' := 139) (y := x5 + (1 : Int32)) (ls' := [some (vR 41 r0), some (vR 64 r1), some (vI x2), some (vI x3), some (vI x4), some (vI (x5 + (1 : Int32))), none, none, none]) rfl (by decide) rfl rfl rfl ?_
  refine jw_goto (pc' := 63) rfl rfl ?_
  exact hK63 _ _ _ _ _ _ _ w
def W_X8_prepare_128 (D : JD) (d : Nat) (Q : JO → JH → Prop) (K63 : Nat → Nat → Int32 → Int32 → Int32 → Int32 → JH → Prop) (r0 : Nat) (r1 : Nat) (x2 : Int32) (x3 : Int32) (x4 : Int32) (x5 : Int32) (q0 : Nat) (h : JH) : Prop :=
  W_X8_prepare_133 D d Q K63 r0 r1 x2 x3 x4 x5 q0 (1 : Int32) h
theorem w_X8_prepare_128 {D : JD} {d : Nat} {Q : JO → JH → Prop} {K63 : Nat → Nat → Int32 → Int32 → Int32 → Int32 → JH → Prop} {r0 : Nat} {r1 : Nat} {x2 : Int32} {x3 : Int32} {x4 : Int32} {x5 : Int32} {q0 : Nat} {h : JH} (hK63 : ∀ (r0 : Nat) (r1 : Nat) (x2 : Int32) (x3 : Int32) (x4 : Int32) (x5 : Int32) (h : JH), K63 r0 r1 x2 x3 x4 x5 h → JW D (d + 1) mX8_prepare 63 [some (vR 41 r0), some (vR 64 r1), some (vI x2), some (vI x3), some (vI x4), some (vI x5), none, none, none] [] h Q) (w : W_X8_prepare_128 D d Q K63 r0 r1 x2 x3 x4 x5 q0 h) : JW D (d + 1) mX8_prepare 128 [some (vR 41 r0), some (vR 64 r1), some (vI x2), some (vI x3), some (vI x4), some (vI x5), none, none, none] [vR 41 q0] h Q := by
  unfold W_X8_prepare_128 at w
  refine jw_iconst (pc' := 129) (x := (1 : Int32)) rfl rfl ?_
  refine jw_goto (pc' := 133) rfl rfl ?_
  exact w_X8_prepare_133 hK63 w
def W_X8_prepare_63 (D : JD) (d : Nat) (Q : JO → JH → Prop) (K63 : Nat → Nat → Int32 → Int32 → Int32 → Int32 → JH → Prop) (r0 : Nat) (r1 : Nat) (x2 : Int32) (x3 : Int32) (x4 : Int32) (x5 : Int32) (h : JH) : Prop :=
  (x4 ≤ x5 → r0 ≠ 0 ∧ (cX8_load D d r0 x2 x3 h (pV D h (fun h_3 => ∃ n, L_X8_prepare_151 D d Q n r0 r1 x4 h_3) (jth Q)))) ∧ (¬ x4 ≤ x5 → r0 ≠ 0 ∧ (cX8_read4 D d r0 h (pI D h (fun v_9 h_7 => (jfr h 242 r0) ≠ 0 ∧ jin x5 (jln h_7 (jfr h 242 r0)) ∧ ∀ h_12 : JH, h_12 = wai h_7 (jfr h 242 r0) (ixn x5) v_9 → ((jfr h_12 242 r0) ≠ 0 ∧ jin x5 (jln h_12 (jfr h_12 242 r0)) ∧ (((jai h_12 (jfr h_12 242 r0) (ixn x5)) = 0 → W_X8_prepare_128 D d Q K63 r0 r1 x2 x3 x4 x5 r0 h_12) ∧ (¬ (jai h_12 (jfr h_12 242 r0) (ixn x5)) = 0 → jin x5 (jln h_12 (jfr h_12 242 r0)) ∧ (((jai h_12 (jfr h_12 242 r0) (ixn x5)) = (16 : Int32) → W_X8_prepare_128 D d Q K63 r0 r1 x2 x3 x4 x5 r0 h_12) ∧ (¬ (jai h_12 (jfr h_12 242 r0) (ixn x5)) = (16 : Int32) → jin x5 (jln h_12 (jfr h_12 242 r0)) ∧ (((jai h_12 (jfr h_12 242 r0) (ixn x5)) = (20 : Int32) → W_X8_prepare_128 D d Q K63 r0 r1 x2 x3 x4 x5 r0 h_12) ∧ (¬ (jai h_12 (jfr h_12 242 r0) (ixn x5)) = (20 : Int32) → jin x5 (jln h_12 (jfr h_12 242 r0)) ∧ ((¬ (jai h_12 (jfr h_12 242 r0) (ixn x5)) = (25 : Int32) → W_X8_prepare_133 D d Q K63 r0 r1 x2 x3 x4 x5 r0 (0 : Int32) h_12) ∧ ((jai h_12 (jfr h_12 242 r0) (ixn x5)) = (25 : Int32) → W_X8_prepare_128 D d Q K63 r0 r1 x2 x3 x4 x5 r0 h_12)))))))))) (jth Q))))
theorem w_X8_prepare_63 {D : JD} {d : Nat} {Q : JO → JH → Prop} {K63 : Nat → Nat → Int32 → Int32 → Int32 → Int32 → JH → Prop} {r0 : Nat} {r1 : Nat} {x2 : Int32} {x3 : Int32} {x4 : Int32} {x5 : Int32} {h : JH} (hK63 : ∀ (r0 : Nat) (r1 : Nat) (x2 : Int32) (x3 : Int32) (x4 : Int32) (x5 : Int32) (h : JH), K63 r0 r1 x2 x3 x4 x5 h → JW D (d + 1) mX8_prepare 63 [some (vR 41 r0), some (vR 64 r1), some (vI x2), some (vI x3), some (vI x4), some (vI x5), none, none, none] [] h Q) (w : W_X8_prepare_63 D d Q K63 r0 r1 x2 x3 x4 x5 h) : JW D (d + 1) mX8_prepare 63 [some (vR 41 r0), some (vR 64 r1), some (vI x2), some (vI x3), some (vI x4), some (vI x5), none, none, none] [] h Q := by
  unfold W_X8_prepare_63 at w
  refine jw_iload (pc' := 65) rfl rfl ?_
  refine jw_iload (pc' := 67) rfl rfl ?_
  refine jw_icmp_ge (tgt := 142) (pc' := 70) rfl rfl (fun c_1 => ?_) (fun c_1 => ?_)
  · replace w := w.1 c_1
    refine jw_aload_n (pc' := 143) rfl rfl ?_
    refine jw_iload_n (pc' := 144) rfl rfl ?_
    refine jw_iload_n (pc' := 145) rfl rfl ?_
    obtain ⟨g_2, w⟩ := w
    refine jw_cV (st := []) (sa := [vR 41 r0, vI x2, vI x3]) okX8_load rfl rfl rfl rfl rfl rfl (jstp_virtual (sa := [vI x2, vI x3]) (st := []) (k := 0) rfl rfl sX8_load okX8_load g_2 (one41.k g_2) rfl rfl) w (fun h_3 _ _ w => ?_)
    refine jw_null (pc' := 149) (t := 95) rfl ?_
    refine jw_astore (pc' := 151) (ls' := [some (vR 41 r0), some (vR 64 r1), some (vI x2), some (vI x3), some (vI x4), some (vR 95 0), none, none, none]) rfl (by decide) rfl ?_
    refine jw_gen (ls' := [some (vR 41 r0), some (vR 64 r1), none, none, some (vI x4), some (vR 95 0), none, none, none]) (st' := []) (And.intro (Or.inl rfl) (And.intro (Or.inl rfl) (And.intro (Or.inl rfl) (And.intro (Or.inl rfl) (trivial))))) (trivial) ?_
    obtain ⟨n, w⟩ := w
    exact l_X8_prepare_151 n _ _ _ _ w
  · replace w := w.2 c_1
    refine jw_aload_n (pc' := 71) rfl rfl ?_
    obtain ⟨g_6, w⟩ := w
    refine jw_getR (pc' := 74) (F := 242) (t' := 184) rfl rfl rfl rfl rfl g_6 ?_
    refine jw_iload (pc' := 76) rfl rfl ?_
    refine jw_aload_n (pc' := 77) rfl rfl ?_
    refine jw_cI (st := [vI x5, vR 184 (jfr h 242 r0)]) (sa := [vR 41 r0]) okX8_read4 rfl rfl rfl rfl rfl rfl (jstp_virtual (sa := []) (st := [vI x5, vR 184 (jfr h 242 r0)]) (k := 0) rfl rfl sX8_read4 okX8_read4 g_6 (one41.k g_6) rfl rfl) w (fun v_9 h_7 _ _ w => ?_)
    obtain ⟨g_10, w⟩ := w
    obtain ⟨g_11, w⟩ := w
    refine jw_iast' (pc' := 81) rfl rfl rfl rfl rfl g_10 g_11 (fun h_12 e_13 => ?_)
    replace w := w h_12 e_13
    refine jw_aload_n (pc' := 82) rfl rfl ?_
    refine jw_aload_n (pc' := 83) rfl rfl ?_
    refine jw_getR (pc' := 86) (F := 242) (t' := 184) rfl rfl rfl rfl rfl g_6 ?_
    refine jw_iload (pc' := 88) rfl rfl ?_
    obtain ⟨g_14, w⟩ := w
    obtain ⟨g_15, w⟩ := w
    refine jw_iald (pc' := 89) rfl rfl rfl rfl g_14 g_15.ix g_15.2 ?_
    refine jw_if_eq (tgt := 128) (pc' := 92) rfl rfl (fun c_16 => ?_) (fun c_16 => ?_)
    · replace w := w.1 c_16
      exact w_X8_prepare_128 hK63 w
    · replace w := w.2 c_16
      refine jw_aload_n (pc' := 93) rfl rfl ?_
      refine jw_getR (pc' := 96) (F := 242) (t' := 184) rfl rfl rfl rfl rfl g_6 ?_
      refine jw_iload (pc' := 98) rfl rfl ?_
      obtain ⟨g_17, w⟩ := w
      refine jw_iald (pc' := 99) rfl rfl rfl rfl g_14 g_17.ix g_17.2 ?_
      refine jw_bipush (pc' := 101) (x := (16 : Int32)) rfl rfl ?_
      refine jw_icmp_eq (tgt := 128) (pc' := 104) rfl rfl (fun c_18 => ?_) (fun c_18 => ?_)
      · replace w := w.1 c_18
        exact w_X8_prepare_128 hK63 w
      · replace w := w.2 c_18
        refine jw_aload_n (pc' := 105) rfl rfl ?_
        refine jw_getR (pc' := 108) (F := 242) (t' := 184) rfl rfl rfl rfl rfl g_6 ?_
        refine jw_iload (pc' := 110) rfl rfl ?_
        obtain ⟨g_19, w⟩ := w
        refine jw_iald (pc' := 111) rfl rfl rfl rfl g_14 g_19.ix g_19.2 ?_
        refine jw_bipush (pc' := 113) (x := (20 : Int32)) rfl rfl ?_
        refine jw_icmp_eq (tgt := 128) (pc' := 116) rfl rfl (fun c_20 => ?_) (fun c_20 => ?_)
        · replace w := w.1 c_20
          exact w_X8_prepare_128 hK63 w
        · replace w := w.2 c_20
          refine jw_aload_n (pc' := 117) rfl rfl ?_
          refine jw_getR (pc' := 120) (F := 242) (t' := 184) rfl rfl rfl rfl rfl g_6 ?_
          refine jw_iload (pc' := 122) rfl rfl ?_
          obtain ⟨g_21, w⟩ := w
          refine jw_iald (pc' := 123) rfl rfl rfl rfl g_14 g_21.ix g_21.2 ?_
          refine jw_bipush (pc' := 125) (x := (25 : Int32)) rfl rfl ?_
          refine jw_icmp_ne (tgt := 132) (pc' := 128) rfl rfl (fun c_22 => ?_) (fun c_22 => ?_)
          · replace w := w.1 c_22
            refine jw_iconst (pc' := 133) (x := (0 : Int32)) rfl rfl ?_
            exact w_X8_prepare_133 hK63 w
          · replace w := w.2 c_22
            exact w_X8_prepare_128 hK63 w
def L_X8_prepare_63 (D : JD) (d : Nat) (Q : JO → JH → Prop) : Nat → Nat → Nat → Int32 → Int32 → Int32 → Int32 → JH → Prop
  | 0 => fun _ _ _ _ _ _ _ => False
  | n + 1 => fun r0 r1 x2 x3 x4 x5 h => W_X8_prepare_63 D d Q (L_X8_prepare_63 D d Q n) r0 r1 x2 x3 x4 x5 h
theorem l_X8_prepare_63 {D : JD} {d : Nat} {Q : JO → JH → Prop} : ∀ (n : Nat) (r0 : Nat) (r1 : Nat) (x2 : Int32) (x3 : Int32) (x4 : Int32) (x5 : Int32) (h : JH), L_X8_prepare_63 D d Q n r0 r1 x2 x3 x4 x5 h → JW D (d + 1) mX8_prepare 63 [some (vR 41 r0), some (vR 64 r1), some (vI x2), some (vI x3), some (vI x4), some (vI x5), none, none, none] [] h Q := by
  intro n
  induction n with
  | zero => intro _ _ _ _ _ _ _ w; exact w.elim
  | succ n ih => intro _ _ _ _ _ _ h w; exact w_X8_prepare_63 ih w
def W_X8_prepare_57 (D : JD) (d : Nat) (Q : JO → JH → Prop) (r0 : Nat) (r1 : Nat) (x2 : Int32) (x3 : Int32) (x4 : Int32) (q0 : Nat) (s1 : Int32) (h : JH) : Prop :=
  q0 ≠ 0 ∧ (cX8_whole D d q0 s1 h (pV D h (fun h_2 => ∃ n, L_X8_prepare_63 D d Q n r0 r1 x2 x3 x4 (0 : Int32) h_2) (jth Q)))
theorem w_X8_prepare_57 {D : JD} {d : Nat} {Q : JO → JH → Prop} {r0 : Nat} {r1 : Nat} {x2 : Int32} {x3 : Int32} {x4 : Int32} {q0 : Nat} {s1 : Int32} {h : JH} (w : W_X8_prepare_57 D d Q r0 r1 x2 x3 x4 q0 s1 h) : JW D (d + 1) mX8_prepare 57 [some (vR 41 r0), some (vR 64 r1), some (vI x2), some (vI x3), some (vI x4), none, none, none, none] [vI s1, vR 41 q0] h Q := by
  unfold W_X8_prepare_57 at w
  obtain ⟨g_1, w⟩ := w
  refine jw_cV (st := []) (sa := [vR 41 q0, vI s1]) okX8_whole rfl rfl rfl rfl rfl rfl (jstp_virtual (sa := [vI s1]) (st := []) (k := 0) rfl rfl sX8_whole okX8_whole g_1 (one41.k g_1) rfl rfl) w (fun h_2 _ _ w => ?_)
  refine jw_iconst (pc' := 61) (x := (0 : Int32)) rfl rfl ?_
  refine jw_istore (pc' := 63) (ls' := [some (vR 41 r0), some (vR 64 r1), some (vI x2), some (vI x3), some (vI x4), some (vI (0 : Int32)), none, none, none]) rfl (by decide) rfl ?_
  obtain ⟨n, w⟩ := w
  exact l_X8_prepare_63 n _ _ _ _ _ _ _ w
def W_X8_prepare_56 (D : JD) (d : Nat) (Q : JO → JH → Prop) (r0 : Nat) (r1 : Nat) (x2 : Int32) (x3 : Int32) (x4 : Int32) (q0 : Nat) (h : JH) : Prop :=
  W_X8_prepare_57 D d Q r0 r1 x2 x3 x4 q0 (0 : Int32) h
theorem w_X8_prepare_56 {D : JD} {d : Nat} {Q : JO → JH → Prop} {r0 : Nat} {r1 : Nat} {x2 : Int32} {x3 : Int32} {x4 : Int32} {q0 : Nat} {h : JH} (w : W_X8_prepare_56 D d Q r0 r1 x2 x3 x4 q0 h) : JW D (d + 1) mX8_prepare 56 [some (vR 41 r0), some (vR 64 r1), some (vI x2), some (vI x3), some (vI x4), none, none, none, none] [vR 41 q0] h Q := by
  unfold W_X8_prepare_56 at w
  refine jw_iconst (pc' := 57) (x := (0 : Int32)) rfl rfl ?_
  exact w_X8_prepare_57 w
def W_X8_prepare_0 (D : JD) (d : Nat) (Q : JO → JH → Prop) (r0 : Nat) (h : JH) : Prop :=
  r0 ≠ 0 ∧ (cX8_stringOf D d r0 h (pR D h 64 (fun v_4 h_2 => cX8_string D d r0 h_2 (pI D h_2 (fun v_7 h_5 => cX8_read2 D d r0 h_5 (pI D h_5 (fun v_10 h_8 => (v_10 < 0 → W_X8_prepare_56 D d Q r0 v_4 v_7 ((jfi h_5 238 r0) - (1 : Int32)) v_10 r0 h_8) ∧ (¬ v_10 < 0 → ((8 : Int32) < v_10 → W_X8_prepare_56 D d Q r0 v_4 v_7 ((jfi h_5 238 r0) - (1 : Int32)) v_10 r0 h_8) ∧ (¬ (8 : Int32) < v_10 → (¬ ((jfi h_8 239 r0) - (jfi h_8 238 r0)) = ((4 : Int32) * v_10) → W_X8_prepare_56 D d Q r0 v_4 v_7 ((jfi h_5 238 r0) - (1 : Int32)) v_10 r0 h_8) ∧ (((jfi h_8 239 r0) - (jfi h_8 238 r0)) = ((4 : Int32) * v_10) → W_X8_prepare_57 D d Q r0 v_4 v_7 ((jfi h_5 238 r0) - (1 : Int32)) v_10 r0 (1 : Int32) h_8)))) (jth Q))) (jth Q))) (jth Q)))
theorem w_X8_prepare_0 {D : JD} {d : Nat} {Q : JO → JH → Prop} {r0 : Nat} {h : JH} (w : W_X8_prepare_0 D d Q r0 h) : JW D (d + 1) mX8_prepare 0 [some (vR 41 r0), none, none, none, none, none, none, none, none] [] h Q := by
  unfold W_X8_prepare_0 at w
  refine jw_aload_n (pc' := 1) rfl rfl ?_
  obtain ⟨g_1, w⟩ := w
  refine jw_cR (st := []) (sa := [vR 41 r0]) okX8_stringOf rfl rfl rfl rfl rfl rfl (jstp_virtual (sa := []) (st := []) (k := 0) rfl rfl sX8_stringOf okX8_stringOf g_1 (one41.k g_1) rfl rfl) w (fun v_4 h_2 _ _ _ w => ?_)
  refine jw_astore_n (pc' := 5) (ls' := [some (vR 41 r0), some (vR 64 v_4), none, none, none, none, none, none, none]) rfl (by decide) rfl ?_
  refine jw_aload_n (pc' := 6) rfl rfl ?_
  refine jw_cI (st := []) (sa := [vR 41 r0]) okX8_string rfl rfl rfl rfl rfl rfl (jstp_virtual (sa := []) (st := []) (k := 0) rfl rfl sX8_string okX8_string g_1 (one41.k g_1) rfl rfl) w (fun v_7 h_5 _ _ w => ?_)
  refine jw_istore_n (pc' := 10) (ls' := [some (vR 41 r0), some (vR 64 v_4), some (vI v_7), none, none, none, none, none, none]) rfl (by decide) rfl ?_
  refine jw_aload_n (pc' := 11) rfl rfl ?_
  refine jw_getI (pc' := 14) (F := 238) rfl rfl rfl rfl g_1 ?_
  refine jw_iconst (pc' := 15) (x := (1 : Int32)) rfl rfl ?_
  refine jw_isub (pc' := 16) rfl ?_
  refine jw_istore_n (pc' := 17) (ls' := [some (vR 41 r0), some (vR 64 v_4), some (vI v_7), some (vI ((jfi h_5 238 r0) - (1 : Int32))), none, none, none, none, none]) rfl (by decide) rfl ?_
  refine jw_aload_n (pc' := 18) rfl rfl ?_
  refine jw_cI (st := []) (sa := [vR 41 r0]) okX8_read2 rfl rfl rfl rfl rfl rfl (jstp_virtual (sa := []) (st := []) (k := 0) rfl rfl sX8_read2 okX8_read2 g_1 (one41.k g_1) rfl rfl) w (fun v_10 h_8 _ _ w => ?_)
  refine jw_istore (pc' := 23) (ls' := [some (vR 41 r0), some (vR 64 v_4), some (vI v_7), some (vI ((jfi h_5 238 r0) - (1 : Int32))), some (vI v_10), none, none, none, none]) rfl (by decide) rfl ?_
  refine jw_aload_n (pc' := 24) rfl rfl ?_
  refine jw_iload (pc' := 26) rfl rfl ?_
  refine jw_if_lt (tgt := 56) (pc' := 29) rfl rfl (fun c_11 => ?_) (fun c_11 => ?_)
  · replace w := w.1 c_11
    exact w_X8_prepare_56 w
  · replace w := w.2 c_11
    refine jw_iload (pc' := 31) rfl rfl ?_
    refine jw_bipush (pc' := 33) (x := (8 : Int32)) rfl rfl ?_
    refine jw_icmp_gt (tgt := 56) (pc' := 36) rfl rfl (fun c_12 => ?_) (fun c_12 => ?_)
    · replace w := w.1 c_12
      exact w_X8_prepare_56 w
    · replace w := w.2 c_12
      refine jw_aload_n (pc' := 37) rfl rfl ?_
      refine jw_getI (pc' := 40) (F := 239) rfl rfl rfl rfl g_1 ?_
      refine jw_aload_n (pc' := 41) rfl rfl ?_
      refine jw_getI (pc' := 44) (F := 238) rfl rfl rfl rfl g_1 ?_
      refine jw_isub (pc' := 45) rfl ?_
      refine jw_iconst (pc' := 46) (x := (4 : Int32)) rfl rfl ?_
      refine jw_iload (pc' := 48) rfl rfl ?_
      refine jw_imul (pc' := 49) rfl ?_
      refine jw_icmp_ne (tgt := 56) (pc' := 52) rfl rfl (fun c_13 => ?_) (fun c_13 => ?_)
      · replace w := w.1 c_13
        exact w_X8_prepare_56 w
      · replace w := w.2 c_13
        refine jw_iconst (pc' := 53) (x := (1 : Int32)) rfl rfl ?_
        refine jw_goto (pc' := 57) rfl rfl ?_
        exact w_X8_prepare_57 w
def T_X8_prepare (D : JD) (d : Nat) (Q : JO → JH → Prop) (r0 : Nat) (h : JH) : Prop := W_X8_prepare_0 D d Q r0 h
theorem t_X8_prepare {D : JD} {d : Nat} {Q : JO → JH → Prop} {r0 : Nat} {h : JH} (w : T_X8_prepare D d Q r0 h) : cX8_prepare D (d + 1) r0 h Q := by
  unfold T_X8_prepare at w
  unfold cX8_prepare
  exact w_X8_prepare_0 w
def W_X8_read2_19 (D : JD) (d : Nat) (Q : JO → JH → Prop) (r0 : Nat) (q0 : Nat) (s1 : Int32) (h : JH) : Prop :=
  q0 ≠ 0 ∧ (cX8_whole D d q0 s1 h (pV D h (fun h_2 => r0 ≠ 0 ∧ (∀ h_6 : JH, h_6 = wfi h_2 238 r0 ((jfi h_2 238 r0) + (2 : Int32)) → (cX8_b D d r0 ((jfi h_6 238 r0) - (2 : Int32)) h_6 (pI D h_6 (fun v_10 h_8 => cX8_b D d r0 ((jfi h_8 238 r0) - (1 : Int32)) h_8 (pI D h_8 (fun v_13 h_11 => Q (.inl (some (vI ((Int32.toInt16 ((v_10 <<< ((8 : Int32) &&& 31)) ||| v_13)).toInt32)))) h_11) (jth Q))) (jth Q))))) (jth Q)))
theorem w_X8_read2_19 {D : JD} {d : Nat} {Q : JO → JH → Prop} {r0 : Nat} {q0 : Nat} {s1 : Int32} {h : JH} (w : W_X8_read2_19 D d Q r0 q0 s1 h) : JW D (d + 1) mX8_read2 19 [some (vR 41 r0)] [vI s1, vR 41 q0] h Q := by
  unfold W_X8_read2_19 at w
  obtain ⟨g_1, w⟩ := w
  refine jw_cV (st := []) (sa := [vR 41 q0, vI s1]) okX8_whole rfl rfl rfl rfl rfl rfl (jstp_virtual (sa := [vI s1]) (st := []) (k := 0) rfl rfl sX8_whole okX8_whole g_1 (one41.k g_1) rfl rfl) w (fun h_2 _ _ w => ?_)
  refine jw_aload_n (pc' := 23) rfl rfl ?_
  refine jw_dup (pc' := 24) rfl rfl ?_
  obtain ⟨g_5, w⟩ := w
  refine jw_getI (pc' := 27) (F := 238) rfl rfl rfl rfl g_5 ?_
  refine jw_iconst (pc' := 28) (x := (2 : Int32)) rfl rfl ?_
  refine jw_iadd (pc' := 29) rfl ?_
  refine jw_putI' (pc' := 32) (F := 238) rfl rfl rfl (Or.inr rfl) (Or.inl rfl) rfl (rfl) (rfl) rfl g_5 (fun h_6 e_7 => ?_)
  replace w := w h_6 e_7
  refine jw_aload_n (pc' := 33) rfl rfl ?_
  refine jw_aload_n (pc' := 34) rfl rfl ?_
  refine jw_getI (pc' := 37) (F := 238) rfl rfl rfl rfl g_5 ?_
  refine jw_iconst (pc' := 38) (x := (2 : Int32)) rfl rfl ?_
  refine jw_isub (pc' := 39) rfl ?_
  refine jw_cI (st := []) (sa := [vR 41 r0, vI ((jfi h_6 238 r0) - (2 : Int32))]) okX8_b rfl rfl rfl rfl rfl rfl (jstp_virtual (sa := [vI ((jfi h_6 238 r0) - (2 : Int32))]) (st := []) (k := 0) rfl rfl sX8_b okX8_b g_5 (one41.k g_5) rfl rfl) w (fun v_10 h_8 _ _ w => ?_)
  refine jw_bipush (pc' := 44) (x := (8 : Int32)) rfl rfl ?_
  refine jw_ishl (pc' := 45) rfl ?_
  refine jw_aload_n (pc' := 46) rfl rfl ?_
  refine jw_aload_n (pc' := 47) rfl rfl ?_
  refine jw_getI (pc' := 50) (F := 238) rfl rfl rfl rfl g_5 ?_
  refine jw_iconst (pc' := 51) (x := (1 : Int32)) rfl rfl ?_
  refine jw_isub (pc' := 52) rfl ?_
  refine jw_cI (st := [vI (v_10 <<< ((8 : Int32) &&& 31))]) (sa := [vR 41 r0, vI ((jfi h_8 238 r0) - (1 : Int32))]) okX8_b rfl rfl rfl rfl rfl rfl (jstp_virtual (sa := [vI ((jfi h_8 238 r0) - (1 : Int32))]) (st := [vI (v_10 <<< ((8 : Int32) &&& 31))]) (k := 0) rfl rfl sX8_b okX8_b g_5 (one41.k g_5) rfl rfl) w (fun v_13 h_11 _ _ w => ?_)
  refine jw_ior (pc' := 56) rfl ?_
  refine jw_i2s (pc' := 57) rfl ?_
  exact jw_ireturn rfl rfl (rfl) w
def W_X8_read2_0 (D : JD) (d : Nat) (Q : JO → JH → Prop) (r0 : Nat) (h : JH) : Prop :=
  r0 ≠ 0 ∧ (((jfi h 239 r0) < ((jfi h 238 r0) + (2 : Int32)) → W_X8_read2_19 D d Q r0 r0 (0 : Int32) h) ∧ (¬ (jfi h 239 r0) < ((jfi h 238 r0) + (2 : Int32)) → W_X8_read2_19 D d Q r0 r0 (1 : Int32) h))
theorem w_X8_read2_0 {D : JD} {d : Nat} {Q : JO → JH → Prop} {r0 : Nat} {h : JH} (w : W_X8_read2_0 D d Q r0 h) : JW D (d + 1) mX8_read2 0 [some (vR 41 r0)] [] h Q := by
  unfold W_X8_read2_0 at w
  refine jw_aload_n (pc' := 1) rfl rfl ?_
  refine jw_aload_n (pc' := 2) rfl rfl ?_
  obtain ⟨g_1, w⟩ := w
  refine jw_getI (pc' := 5) (F := 238) rfl rfl rfl rfl g_1 ?_
  refine jw_iconst (pc' := 6) (x := (2 : Int32)) rfl rfl ?_
  refine jw_iadd (pc' := 7) rfl ?_
  refine jw_aload_n (pc' := 8) rfl rfl ?_
  refine jw_getI (pc' := 11) (F := 239) rfl rfl rfl rfl g_1 ?_
  refine jw_icmp_gt (tgt := 18) (pc' := 14) rfl rfl (fun c_2 => ?_) (fun c_2 => ?_)
  · replace w := w.1 c_2
    refine jw_iconst (pc' := 19) (x := (0 : Int32)) rfl rfl ?_
    exact w_X8_read2_19 w
  · replace w := w.2 c_2
    refine jw_iconst (pc' := 15) (x := (1 : Int32)) rfl rfl ?_
    refine jw_goto (pc' := 19) rfl rfl ?_
    exact w_X8_read2_19 w
def T_X8_read2 (D : JD) (d : Nat) (Q : JO → JH → Prop) (r0 : Nat) (h : JH) : Prop := W_X8_read2_0 D d Q r0 h
theorem t_X8_read2 {D : JD} {d : Nat} {Q : JO → JH → Prop} {r0 : Nat} {h : JH} (w : T_X8_read2 D d Q r0 h) : cX8_read2 D (d + 1) r0 h Q := by
  unfold T_X8_read2 at w
  unfold cX8_read2
  exact w_X8_read2_0 w
def W_X8_spare_108 (D : JD) (d : Nat) (Q : JO → JH → Prop) (K2 : Nat → Int32 → JH → Prop) (K76 : Nat → Int32 → Int32 → Int32 → JH → Prop) (r0 : Nat) (x1 : Int32) (x3 : Int32) (s0 : Int32) (s1 : Int32) (h : JH) : Prop :=
  K76 r0 x1 (s0 &&& s1) (x3 + (1 : Int32)) h
theorem w_X8_spare_108 {D : JD} {d : Nat} {Q : JO → JH → Prop} {K2 : Nat → Int32 → JH → Prop} {K76 : Nat → Int32 → Int32 → Int32 → JH → Prop} {r0 : Nat} {x1 : Int32} {x3 : Int32} {s0 : Int32} {s1 : Int32} {h : JH} (hK2 : ∀ (r0 : Nat) (x1 : Int32) (h : JH), K2 r0 x1 h → JW D (d + 1) mX8_spare 2 [some (vR 41 r0), some (vI x1), none, none] [] h Q) (hK76 : ∀ (r0 : Nat) (x1 : Int32) (x2 : Int32) (x3 : Int32) (h : JH), K76 r0 x1 x2 x3 h → JW D (d + 1) mX8_spare 76 [some (vR 41 r0), some (vI x1), some (vI x2), some (vI x3)] [] h Q) (w : W_X8_spare_108 D d Q K2 K76 r0 x1 x3 s0 s1 h) : JW D (d + 1) mX8_spare 108 [some (vR 41 r0), some (vI x1), none, some (vI x3)] [vI s1, vI s0] h Q := by
  unfold W_X8_spare_108 at w
  refine jw_iand (pc' := 109) rfl ?_
  refine jw_istore_n (pc' := 110) (ls' := [some (vR 41 r0), some (vI x1), some (vI (s0 &&& s1)), some (vI x3)]) rfl (by decide) rfl ?_
  refine jw_iinc (pc' := 113) (y := x3 + (1 : Int32)) (ls' := [some (vR 41 r0), some (vI x1), some (vI (s0 &&& s1)), some (vI (x3 + (1 : Int32)))]) rfl (by decide) rfl rfl rfl ?_
  refine jw_goto (pc' := 76) rfl rfl ?_
  exact hK76 _ _ _ _ _ w
def W_X8_spare_76 (D : JD) (d : Nat) (Q : JO → JH → Prop) (K2 : Nat → Int32 → JH → Prop) (K76 : Nat → Int32 → Int32 → Int32 → JH → Prop) (r0 : Nat) (x1 : Int32) (x2 : Int32) (x3 : Int32) (h : JH) : Prop :=
  r0 ≠ 0 ∧ (((jfi h 234 r0) ≤ x3 → (x2 = 0 → K2 r0 (x1 + (1 : Int32)) h) ∧ (¬ x2 = 0 → (jfr h 244 r0) ≠ 0 ∧ jin x1 (jln h (jfr h 244 r0)) ∧ (Q (.inl (some (vR 47 (jar h (jfr h 244 r0) (ixn x1))))) h))) ∧ (¬ (jfi h 234 r0) ≤ x3 → (jfr h 233 r0) ≠ 0 ∧ jin x3 (jln h (jfr h 233 r0)) ∧ ((jar h (jfr h 233 r0) (ixn x3)) ≠ 0 ∧ ((jfr h 244 r0) ≠ 0 ∧ jin x1 (jln h (jfr h 244 r0)) ∧ (((jfr h 320 (jar h (jfr h 233 r0) (ixn x3))) = (jar h (jfr h 244 r0) (ixn x1)) → W_X8_spare_108 D d Q K2 K76 r0 x1 x3 x2 (0 : Int32) h) ∧ (¬ (jfr h 320 (jar h (jfr h 233 r0) (ixn x3))) = (jar h (jfr h 244 r0) (ixn x1)) → W_X8_spare_108 D d Q K2 K76 r0 x1 x3 x2 (1 : Int32) h))))))
theorem w_X8_spare_76 {D : JD} {d : Nat} {Q : JO → JH → Prop} {K2 : Nat → Int32 → JH → Prop} {K76 : Nat → Int32 → Int32 → Int32 → JH → Prop} {r0 : Nat} {x1 : Int32} {x2 : Int32} {x3 : Int32} {h : JH} (hK2 : ∀ (r0 : Nat) (x1 : Int32) (h : JH), K2 r0 x1 h → JW D (d + 1) mX8_spare 2 [some (vR 41 r0), some (vI x1), none, none] [] h Q) (hK76 : ∀ (r0 : Nat) (x1 : Int32) (x2 : Int32) (x3 : Int32) (h : JH), K76 r0 x1 x2 x3 h → JW D (d + 1) mX8_spare 76 [some (vR 41 r0), some (vI x1), some (vI x2), some (vI x3)] [] h Q) (w : W_X8_spare_76 D d Q K2 K76 r0 x1 x2 x3 h) : JW D (d + 1) mX8_spare 76 [some (vR 41 r0), some (vI x1), some (vI x2), some (vI x3)] [] h Q := by
  unfold W_X8_spare_76 at w
  refine jw_iload_n (pc' := 77) rfl rfl ?_
  refine jw_aload_n (pc' := 78) rfl rfl ?_
  obtain ⟨g_1, w⟩ := w
  refine jw_getI (pc' := 81) (F := 234) rfl rfl rfl rfl g_1 ?_
  refine jw_icmp_ge (tgt := 116) (pc' := 84) rfl rfl (fun c_2 => ?_) (fun c_2 => ?_)
  · replace w := w.1 c_2
    refine jw_iload_n (pc' := 117) rfl rfl ?_
    refine jw_if_eq (tgt := 127) (pc' := 120) rfl rfl (fun c_3 => ?_) (fun c_3 => ?_)
    · replace w := w.1 c_3
      refine jw_iinc (pc' := 130) (y := x1 + (1 : Int32)) (ls' := [some (vR 41 r0), some (vI (x1 + (1 : Int32))), some (vI x2), some (vI x3)]) rfl (by decide) rfl rfl rfl ?_
      refine jw_goto (pc' := 2) rfl rfl ?_
      refine jw_gen (ls' := [some (vR 41 r0), some (vI (x1 + (1 : Int32))), none, none]) (st' := []) (And.intro (Or.inl rfl) (And.intro (Or.inl rfl) (trivial))) (trivial) ?_
      exact hK2 _ _ _ w
    · replace w := w.2 c_3
      refine jw_aload_n (pc' := 121) rfl rfl ?_
      refine jw_getR (pc' := 124) (F := 244) (t' := 186) rfl rfl rfl rfl rfl g_1 ?_
      refine jw_iload_n (pc' := 125) rfl rfl ?_
      obtain ⟨g_4, w⟩ := w
      obtain ⟨g_5, w⟩ := w
      refine jw_aald (pc' := 126) (t' := 47) rfl rfl rfl rfl g_4 g_5.ix g_5.2 ?_
      exact jw_areturn rfl rfl rfl rfl rfl w
  · replace w := w.2 c_2
    refine jw_iload_n (pc' := 85) rfl rfl ?_
    refine jw_aload_n (pc' := 86) rfl rfl ?_
    refine jw_getR (pc' := 89) (F := 233) (t' := 182) rfl rfl rfl rfl rfl g_1 ?_
    refine jw_iload_n (pc' := 90) rfl rfl ?_
    obtain ⟨g_6, w⟩ := w
    obtain ⟨g_7, w⟩ := w
    refine jw_aald (pc' := 91) (t' := 50) rfl rfl rfl rfl g_6 g_7.ix g_7.2 ?_
    obtain ⟨g_8, w⟩ := w
    refine jw_getR (pc' := 94) (F := 320) (t' := 47) rfl rfl rfl rfl rfl g_8 ?_
    refine jw_aload_n (pc' := 95) rfl rfl ?_
    refine jw_getR (pc' := 98) (F := 244) (t' := 186) rfl rfl rfl rfl rfl g_1 ?_
    refine jw_iload_n (pc' := 99) rfl rfl ?_
    obtain ⟨g_9, w⟩ := w
    obtain ⟨g_10, w⟩ := w
    refine jw_aald (pc' := 100) (t' := 47) rfl rfl rfl rfl g_9 g_10.ix g_10.2 ?_
    refine jw_acmp_eq (tgt := 107) (pc' := 103) rfl rfl (fun c_11 => ?_) (fun c_11 => ?_)
    · replace w := w.1 c_11
      refine jw_iconst (pc' := 108) (x := (0 : Int32)) rfl rfl ?_
      refine jw_gen (ls' := [some (vR 41 r0), some (vI x1), none, some (vI x3)]) (st' := [vI (0 : Int32), vI x2]) (And.intro (Or.inl rfl) (And.intro (Or.inl rfl) (And.intro (Or.inl rfl) (trivial)))) (And.intro (Or.inl rfl) (And.intro (Or.inl rfl) (trivial))) ?_
      exact w_X8_spare_108 hK2 hK76 w
    · replace w := w.2 c_11
      refine jw_iconst (pc' := 104) (x := (1 : Int32)) rfl rfl ?_
      refine jw_goto (pc' := 108) rfl rfl ?_
      refine jw_gen (ls' := [some (vR 41 r0), some (vI x1), none, some (vI x3)]) (st' := [vI (1 : Int32), vI x2]) (And.intro (Or.inl rfl) (And.intro (Or.inl rfl) (And.intro (Or.inl rfl) (trivial)))) (And.intro (Or.inl rfl) (And.intro (Or.inl rfl) (trivial))) ?_
      exact w_X8_spare_108 hK2 hK76 w
def L_X8_spare_76 (D : JD) (d : Nat) (Q : JO → JH → Prop) (K2 : Nat → Int32 → JH → Prop) : Nat → Nat → Int32 → Int32 → Int32 → JH → Prop
  | 0 => fun _ _ _ _ _ => False
  | n + 1 => fun r0 x1 x2 x3 h => W_X8_spare_76 D d Q K2 (L_X8_spare_76 D d Q K2 n) r0 x1 x2 x3 h
theorem l_X8_spare_76 {D : JD} {d : Nat} {Q : JO → JH → Prop} {K2 : Nat → Int32 → JH → Prop} (hK2 : ∀ (r0 : Nat) (x1 : Int32) (h : JH), K2 r0 x1 h → JW D (d + 1) mX8_spare 2 [some (vR 41 r0), some (vI x1), none, none] [] h Q) : ∀ (n : Nat) (r0 : Nat) (x1 : Int32) (x2 : Int32) (x3 : Int32) (h : JH), L_X8_spare_76 D d Q K2 n r0 x1 x2 x3 h → JW D (d + 1) mX8_spare 76 [some (vR 41 r0), some (vI x1), some (vI x2), some (vI x3)] [] h Q := by
  intro n
  induction n with
  | zero => intro _ _ _ _ _ w; exact w.elim
  | succ n ih => intro _ _ _ _ h w; exact w_X8_spare_76 hK2 ih w
def W_X8_spare_66 (D : JD) (d : Nat) (Q : JO → JH → Prop) (K2 : Nat → Int32 → JH → Prop) (K34 : Nat → Int32 → Int32 → Int32 → JH → Prop) (r0 : Nat) (x1 : Int32) (x3 : Int32) (s0 : Int32) (s1 : Int32) (h : JH) : Prop :=
  K34 r0 x1 (s0 &&& s1) (x3 + (1 : Int32)) h
theorem w_X8_spare_66 {D : JD} {d : Nat} {Q : JO → JH → Prop} {K2 : Nat → Int32 → JH → Prop} {K34 : Nat → Int32 → Int32 → Int32 → JH → Prop} {r0 : Nat} {x1 : Int32} {x3 : Int32} {s0 : Int32} {s1 : Int32} {h : JH} (hK2 : ∀ (r0 : Nat) (x1 : Int32) (h : JH), K2 r0 x1 h → JW D (d + 1) mX8_spare 2 [some (vR 41 r0), some (vI x1), none, none] [] h Q) (hK34 : ∀ (r0 : Nat) (x1 : Int32) (x2 : Int32) (x3 : Int32) (h : JH), K34 r0 x1 x2 x3 h → JW D (d + 1) mX8_spare 34 [some (vR 41 r0), some (vI x1), some (vI x2), some (vI x3)] [] h Q) (w : W_X8_spare_66 D d Q K2 K34 r0 x1 x3 s0 s1 h) : JW D (d + 1) mX8_spare 66 [some (vR 41 r0), some (vI x1), none, some (vI x3)] [vI s1, vI s0] h Q := by
  unfold W_X8_spare_66 at w
  refine jw_iand (pc' := 67) rfl ?_
  refine jw_istore_n (pc' := 68) (ls' := [some (vR 41 r0), some (vI x1), some (vI (s0 &&& s1)), some (vI x3)]) rfl (by decide) rfl ?_
  refine jw_iinc (pc' := 71) (y := x3 + (1 : Int32)) (ls' := [some (vR 41 r0), some (vI x1), some (vI (s0 &&& s1)), some (vI (x3 + (1 : Int32)))]) rfl (by decide) rfl rfl rfl ?_
  refine jw_goto (pc' := 34) rfl rfl ?_
  exact hK34 _ _ _ _ _ w
def W_X8_spare_34 (D : JD) (d : Nat) (Q : JO → JH → Prop) (K2 : Nat → Int32 → JH → Prop) (K34 : Nat → Int32 → Int32 → Int32 → JH → Prop) (r0 : Nat) (x1 : Int32) (x2 : Int32) (x3 : Int32) (h : JH) : Prop :=
  r0 ≠ 0 ∧ (((jfi h 232 r0) ≤ x3 → ∃ n, L_X8_spare_76 D d Q K2 n r0 x1 x2 (0 : Int32) h) ∧ (¬ (jfi h 232 r0) ≤ x3 → (jfr h 231 r0) ≠ 0 ∧ jin x3 (jln h (jfr h 231 r0)) ∧ ((jar h (jfr h 231 r0) (ixn x3)) ≠ 0 ∧ ((jfr h 244 r0) ≠ 0 ∧ jin x1 (jln h (jfr h 244 r0)) ∧ (((jfr h 316 (jar h (jfr h 231 r0) (ixn x3))) = (jar h (jfr h 244 r0) (ixn x1)) → W_X8_spare_66 D d Q K2 K34 r0 x1 x3 x2 (0 : Int32) h) ∧ (¬ (jfr h 316 (jar h (jfr h 231 r0) (ixn x3))) = (jar h (jfr h 244 r0) (ixn x1)) → W_X8_spare_66 D d Q K2 K34 r0 x1 x3 x2 (1 : Int32) h))))))
theorem w_X8_spare_34 {D : JD} {d : Nat} {Q : JO → JH → Prop} {K2 : Nat → Int32 → JH → Prop} {K34 : Nat → Int32 → Int32 → Int32 → JH → Prop} {r0 : Nat} {x1 : Int32} {x2 : Int32} {x3 : Int32} {h : JH} (hK2 : ∀ (r0 : Nat) (x1 : Int32) (h : JH), K2 r0 x1 h → JW D (d + 1) mX8_spare 2 [some (vR 41 r0), some (vI x1), none, none] [] h Q) (hK34 : ∀ (r0 : Nat) (x1 : Int32) (x2 : Int32) (x3 : Int32) (h : JH), K34 r0 x1 x2 x3 h → JW D (d + 1) mX8_spare 34 [some (vR 41 r0), some (vI x1), some (vI x2), some (vI x3)] [] h Q) (w : W_X8_spare_34 D d Q K2 K34 r0 x1 x2 x3 h) : JW D (d + 1) mX8_spare 34 [some (vR 41 r0), some (vI x1), some (vI x2), some (vI x3)] [] h Q := by
  unfold W_X8_spare_34 at w
  refine jw_iload_n (pc' := 35) rfl rfl ?_
  refine jw_aload_n (pc' := 36) rfl rfl ?_
  obtain ⟨g_1, w⟩ := w
  refine jw_getI (pc' := 39) (F := 232) rfl rfl rfl rfl g_1 ?_
  refine jw_icmp_ge (tgt := 74) (pc' := 42) rfl rfl (fun c_2 => ?_) (fun c_2 => ?_)
  · replace w := w.1 c_2
    refine jw_iconst (pc' := 75) (x := (0 : Int32)) rfl rfl ?_
    refine jw_istore_n (pc' := 76) (ls' := [some (vR 41 r0), some (vI x1), some (vI x2), some (vI (0 : Int32))]) rfl (by decide) rfl ?_
    obtain ⟨n, w⟩ := w
    exact l_X8_spare_76 hK2 n _ _ _ _ _ w
  · replace w := w.2 c_2
    refine jw_iload_n (pc' := 43) rfl rfl ?_
    refine jw_aload_n (pc' := 44) rfl rfl ?_
    refine jw_getR (pc' := 47) (F := 231) (t' := 181) rfl rfl rfl rfl rfl g_1 ?_
    refine jw_iload_n (pc' := 48) rfl rfl ?_
    obtain ⟨g_3, w⟩ := w
    obtain ⟨g_4, w⟩ := w
    refine jw_aald (pc' := 49) (t' := 49) rfl rfl rfl rfl g_3 g_4.ix g_4.2 ?_
    obtain ⟨g_5, w⟩ := w
    refine jw_getR (pc' := 52) (F := 316) (t' := 47) rfl rfl rfl rfl rfl g_5 ?_
    refine jw_aload_n (pc' := 53) rfl rfl ?_
    refine jw_getR (pc' := 56) (F := 244) (t' := 186) rfl rfl rfl rfl rfl g_1 ?_
    refine jw_iload_n (pc' := 57) rfl rfl ?_
    obtain ⟨g_6, w⟩ := w
    obtain ⟨g_7, w⟩ := w
    refine jw_aald (pc' := 58) (t' := 47) rfl rfl rfl rfl g_6 g_7.ix g_7.2 ?_
    refine jw_acmp_eq (tgt := 65) (pc' := 61) rfl rfl (fun c_8 => ?_) (fun c_8 => ?_)
    · replace w := w.1 c_8
      refine jw_iconst (pc' := 66) (x := (0 : Int32)) rfl rfl ?_
      refine jw_gen (ls' := [some (vR 41 r0), some (vI x1), none, some (vI x3)]) (st' := [vI (0 : Int32), vI x2]) (And.intro (Or.inl rfl) (And.intro (Or.inl rfl) (And.intro (Or.inl rfl) (trivial)))) (And.intro (Or.inl rfl) (And.intro (Or.inl rfl) (trivial))) ?_
      exact w_X8_spare_66 hK2 hK34 w
    · replace w := w.2 c_8
      refine jw_iconst (pc' := 62) (x := (1 : Int32)) rfl rfl ?_
      refine jw_goto (pc' := 66) rfl rfl ?_
      refine jw_gen (ls' := [some (vR 41 r0), some (vI x1), none, some (vI x3)]) (st' := [vI (1 : Int32), vI x2]) (And.intro (Or.inl rfl) (And.intro (Or.inl rfl) (And.intro (Or.inl rfl) (trivial)))) (And.intro (Or.inl rfl) (And.intro (Or.inl rfl) (trivial))) ?_
      exact w_X8_spare_66 hK2 hK34 w
def L_X8_spare_34 (D : JD) (d : Nat) (Q : JO → JH → Prop) (K2 : Nat → Int32 → JH → Prop) : Nat → Nat → Int32 → Int32 → Int32 → JH → Prop
  | 0 => fun _ _ _ _ _ => False
  | n + 1 => fun r0 x1 x2 x3 h => W_X8_spare_34 D d Q K2 (L_X8_spare_34 D d Q K2 n) r0 x1 x2 x3 h
theorem l_X8_spare_34 {D : JD} {d : Nat} {Q : JO → JH → Prop} {K2 : Nat → Int32 → JH → Prop} (hK2 : ∀ (r0 : Nat) (x1 : Int32) (h : JH), K2 r0 x1 h → JW D (d + 1) mX8_spare 2 [some (vR 41 r0), some (vI x1), none, none] [] h Q) : ∀ (n : Nat) (r0 : Nat) (x1 : Int32) (x2 : Int32) (x3 : Int32) (h : JH), L_X8_spare_34 D d Q K2 n r0 x1 x2 x3 h → JW D (d + 1) mX8_spare 34 [some (vR 41 r0), some (vI x1), some (vI x2), some (vI x3)] [] h Q := by
  intro n
  induction n with
  | zero => intro _ _ _ _ _ w; exact w.elim
  | succ n ih => intro _ _ _ _ h w; exact w_X8_spare_34 hK2 ih w
def W_X8_spare_30 (D : JD) (d : Nat) (Q : JO → JH → Prop) (K2 : Nat → Int32 → JH → Prop) (r0 : Nat) (x1 : Int32) (h : JH) : Prop :=
  ∃ n, L_X8_spare_34 D d Q K2 n r0 x1 (1 : Int32) (0 : Int32) h
theorem w_X8_spare_30 {D : JD} {d : Nat} {Q : JO → JH → Prop} {K2 : Nat → Int32 → JH → Prop} {r0 : Nat} {x1 : Int32} {h : JH} (hK2 : ∀ (r0 : Nat) (x1 : Int32) (h : JH), K2 r0 x1 h → JW D (d + 1) mX8_spare 2 [some (vR 41 r0), some (vI x1), none, none] [] h Q) (w : W_X8_spare_30 D d Q K2 r0 x1 h) : JW D (d + 1) mX8_spare 30 [some (vR 41 r0), some (vI x1), none, none] [] h Q := by
  unfold W_X8_spare_30 at w
  refine jw_iconst (pc' := 31) (x := (1 : Int32)) rfl rfl ?_
  refine jw_istore_n (pc' := 32) (ls' := [some (vR 41 r0), some (vI x1), some (vI (1 : Int32)), none]) rfl (by decide) rfl ?_
  refine jw_iconst (pc' := 33) (x := (0 : Int32)) rfl rfl ?_
  refine jw_istore_n (pc' := 34) (ls' := [some (vR 41 r0), some (vI x1), some (vI (1 : Int32)), some (vI (0 : Int32))]) rfl (by decide) rfl ?_
  obtain ⟨n, w⟩ := w
  exact l_X8_spare_34 hK2 n _ _ _ _ _ w
def W_X8_spare_2 (D : JD) (d : Nat) (Q : JO → JH → Prop) (K2 : Nat → Int32 → JH → Prop) (r0 : Nat) (x1 : Int32) (h : JH) : Prop :=
  ((16 : Int32) ≤ x1 → Q (.inl (some (vR 47 0))) h) ∧ (¬ (16 : Int32) ≤ x1 → r0 ≠ 0 ∧ ((jfr h 244 r0) ≠ 0 ∧ jin x1 (jln h (jfr h 244 r0)) ∧ (((jar h (jfr h 244 r0) (ixn x1)) ≠ 0 → W_X8_spare_30 D d Q K2 r0 x1 h) ∧ ((jar h (jfr h 244 r0) (ixn x1)) = 0 → ∀ (r_6 : Nat) (h_7 : JH), r_6 = jsz h + 1 → h_7 = nwo h 47 35 → (cX45_init D d r_6 h_7 (pV D h_7 (fun h_10 => jin x1 (jln h_10 (jfr h 244 r0)) ∧ ∀ h_14 : JH, h_14 = war h_10 (jfr h 244 r0) (ixn x1) r_6 → (W_X8_spare_30 D d Q K2 r0 x1 h_14)) (jth Q)))))))
theorem w_X8_spare_2 {D : JD} {d : Nat} {Q : JO → JH → Prop} {K2 : Nat → Int32 → JH → Prop} {r0 : Nat} {x1 : Int32} {h : JH} (hK2 : ∀ (r0 : Nat) (x1 : Int32) (h : JH), K2 r0 x1 h → JW D (d + 1) mX8_spare 2 [some (vR 41 r0), some (vI x1), none, none] [] h Q) (w : W_X8_spare_2 D d Q K2 r0 x1 h) : JW D (d + 1) mX8_spare 2 [some (vR 41 r0), some (vI x1), none, none] [] h Q := by
  unfold W_X8_spare_2 at w
  refine jw_iload_n (pc' := 3) rfl rfl ?_
  refine jw_bipush (pc' := 5) (x := (16 : Int32)) rfl rfl ?_
  refine jw_icmp_ge (tgt := 133) (pc' := 8) rfl rfl (fun c_1 => ?_) (fun c_1 => ?_)
  · replace w := w.1 c_1
    refine jw_null (pc' := 134) (t := 47) rfl ?_
    exact jw_areturn rfl rfl rfl rfl rfl w
  · replace w := w.2 c_1
    refine jw_aload_n (pc' := 9) rfl rfl ?_
    obtain ⟨g_2, w⟩ := w
    refine jw_getR (pc' := 12) (F := 244) (t' := 186) rfl rfl rfl rfl rfl g_2 ?_
    refine jw_iload_n (pc' := 13) rfl rfl ?_
    obtain ⟨g_3, w⟩ := w
    obtain ⟨g_4, w⟩ := w
    refine jw_aald (pc' := 14) (t' := 47) rfl rfl rfl rfl g_3 g_4.ix g_4.2 ?_
    refine jw_ifnonnull (tgt := 30) (pc' := 17) rfl rfl (fun c_5 => ?_) (fun c_5 => ?_)
    · replace w := w.1 c_5
      exact w_X8_spare_30 hK2 w
    · replace w := w.2 c_5
      refine jw_aload_n (pc' := 18) rfl rfl ?_
      refine jw_getR (pc' := 21) (F := 244) (t' := 186) rfl rfl rfl rfl rfl g_2 ?_
      refine jw_iload_n (pc' := 22) rfl rfl ?_
      refine jw_new' (pc' := 25) (k := 47) (n := 35) rfl rfl rfl rfl rfl rfl rfl (fun r_6 h_7 e_8 e_9 => ?_)
      replace w := w r_6 h_7 e_8 e_9
      refine jw_dup (pc' := 26) rfl rfl ?_
      refine jw_cV (st := [vR 47 r_6, vI x1, vR 186 (jfr h 244 r0)]) (sa := [vR 47 r_6]) okX45_init rfl rfl rfl rfl rfl rfl (jstp_init (sa := []) (st := [vR 47 r_6, vI x1, vR 186 (jfr h 244 r0)]) rfl rfl sX45_init okX45_init (lw_g (jtb_mem (c := 18) (i := 46) rfl) rfl) (jnz e_8) rfl rfl) w (fun h_10 _ _ w => ?_)
      obtain ⟨g_13, w⟩ := w
      refine jw_aast' (pc' := 30) rfl rfl rfl rfl rfl rfl g_3 g_13 (fun h_14 e_15 => ?_)
      replace w := w h_14 e_15
      exact w_X8_spare_30 hK2 w
def L_X8_spare_2 (D : JD) (d : Nat) (Q : JO → JH → Prop) : Nat → Nat → Int32 → JH → Prop
  | 0 => fun _ _ _ => False
  | n + 1 => fun r0 x1 h => W_X8_spare_2 D d Q (L_X8_spare_2 D d Q n) r0 x1 h
theorem l_X8_spare_2 {D : JD} {d : Nat} {Q : JO → JH → Prop} : ∀ (n : Nat) (r0 : Nat) (x1 : Int32) (h : JH), L_X8_spare_2 D d Q n r0 x1 h → JW D (d + 1) mX8_spare 2 [some (vR 41 r0), some (vI x1), none, none] [] h Q := by
  intro n
  induction n with
  | zero => intro _ _ _ w; exact w.elim
  | succ n ih => intro _ _ h w; exact w_X8_spare_2 ih w
def W_X8_spare_0 (D : JD) (d : Nat) (Q : JO → JH → Prop) (r0 : Nat) (h : JH) : Prop :=
  ∃ n, L_X8_spare_2 D d Q n r0 (0 : Int32) h
theorem w_X8_spare_0 {D : JD} {d : Nat} {Q : JO → JH → Prop} {r0 : Nat} {h : JH} (w : W_X8_spare_0 D d Q r0 h) : JW D (d + 1) mX8_spare 0 [some (vR 41 r0), none, none, none] [] h Q := by
  unfold W_X8_spare_0 at w
  refine jw_iconst (pc' := 1) (x := (0 : Int32)) rfl rfl ?_
  refine jw_istore_n (pc' := 2) (ls' := [some (vR 41 r0), some (vI (0 : Int32)), none, none]) rfl (by decide) rfl ?_
  obtain ⟨n, w⟩ := w
  exact l_X8_spare_2 n _ _ _ w
def T_X8_spare (D : JD) (d : Nat) (Q : JO → JH → Prop) (r0 : Nat) (h : JH) : Prop := W_X8_spare_0 D d Q r0 h
theorem t_X8_spare {D : JD} {d : Nat} {Q : JO → JH → Prop} {r0 : Nat} {h : JH} (w : T_X8_spare D d Q r0 h) : cX8_spare D (d + 1) r0 h Q := by
  unfold T_X8_spare at w
  unfold cX8_spare
  exact w_X8_spare_0 w
def W_X8_findPrepared_2 (D : JD) (d : Nat) (Q : JO → JH → Prop) (K2 : Nat → Nat → Int32 → JH → Prop) (r0 : Nat) (r1 : Nat) (x2 : Int32) (h : JH) : Prop :=
  r0 ≠ 0 ∧ (((jfi h 232 r0) ≤ x2 → Q (.inl (some (vI (-1 : Int32)))) h) ∧ (¬ (jfi h 232 r0) ≤ x2 → (jfr h 231 r0) ≠ 0 ∧ jin x2 (jln h (jfr h 231 r0)) ∧ ((jar h (jfr h 231 r0) (ixn x2)) ≠ 0 ∧ ((jfr h 315 (jar h (jfr h 231 r0) (ixn x2))) ≠ 0 ∧ (cJ5_equals D d (jfr h 315 (jar h (jfr h 231 r0) (ixn x2))) r1 h (pI D h (fun v_9 h_7 => (v_9 = 0 → K2 r0 r1 (x2 + (1 : Int32)) h_7) ∧ (¬ v_9 = 0 → Q (.inl (some (vI x2))) h_7)) (jth Q)))))))
theorem w_X8_findPrepared_2 {D : JD} {d : Nat} {Q : JO → JH → Prop} {K2 : Nat → Nat → Int32 → JH → Prop} {r0 : Nat} {r1 : Nat} {x2 : Int32} {h : JH} (hK2 : ∀ (r0 : Nat) (r1 : Nat) (x2 : Int32) (h : JH), K2 r0 r1 x2 h → JW D (d + 1) mX8_findPrepared 2 [some (vR 41 r0), some (vR 64 r1), some (vI x2)] [] h Q) (w : W_X8_findPrepared_2 D d Q K2 r0 r1 x2 h) : JW D (d + 1) mX8_findPrepared 2 [some (vR 41 r0), some (vR 64 r1), some (vI x2)] [] h Q := by
  unfold W_X8_findPrepared_2 at w
  refine jw_iload_n (pc' := 3) rfl rfl ?_
  refine jw_aload_n (pc' := 4) rfl rfl ?_
  obtain ⟨g_1, w⟩ := w
  refine jw_getI (pc' := 7) (F := 232) rfl rfl rfl rfl g_1 ?_
  refine jw_icmp_ge (tgt := 34) (pc' := 10) rfl rfl (fun c_2 => ?_) (fun c_2 => ?_)
  · replace w := w.1 c_2
    refine jw_iconst (pc' := 35) (x := (-1 : Int32)) rfl rfl ?_
    exact jw_ireturn rfl rfl (rfl) w
  · replace w := w.2 c_2
    refine jw_aload_n (pc' := 11) rfl rfl ?_
    refine jw_getR (pc' := 14) (F := 231) (t' := 181) rfl rfl rfl rfl rfl g_1 ?_
    refine jw_iload_n (pc' := 15) rfl rfl ?_
    obtain ⟨g_3, w⟩ := w
    obtain ⟨g_4, w⟩ := w
    refine jw_aald (pc' := 16) (t' := 49) rfl rfl rfl rfl g_3 g_4.ix g_4.2 ?_
    obtain ⟨g_5, w⟩ := w
    refine jw_getR (pc' := 19) (F := 315) (t' := 64) rfl rfl rfl rfl rfl g_5 ?_
    refine jw_aload_n (pc' := 20) rfl rfl ?_
    obtain ⟨g_6, w⟩ := w
    refine jw_cI (st := []) (sa := [vR 64 (jfr h 315 (jar h (jfr h 231 r0) (ixn x2))), vR 64 r1]) okJ5_equals rfl rfl rfl rfl rfl rfl (jstp_virtual (sa := [vR 64 r1]) (st := []) (k := 0) rfl rfl sJ5_equals okJ5_equals g_6 (one64.k g_6) rfl rfl) w (fun v_9 h_7 _ _ w => ?_)
    refine jw_if_eq (tgt := 28) (pc' := 26) rfl rfl (fun c_10 => ?_) (fun c_10 => ?_)
    · replace w := w.1 c_10
      refine jw_iinc (pc' := 31) (y := x2 + (1 : Int32)) (ls' := [some (vR 41 r0), some (vR 64 r1), some (vI (x2 + (1 : Int32)))]) rfl (by decide) rfl rfl rfl ?_
      refine jw_goto (pc' := 2) rfl rfl ?_
      exact hK2 _ _ _ _ w
    · replace w := w.2 c_10
      refine jw_iload_n (pc' := 27) rfl rfl ?_
      exact jw_ireturn rfl rfl (rfl) w
def L_X8_findPrepared_2 (D : JD) (d : Nat) (Q : JO → JH → Prop) : Nat → Nat → Nat → Int32 → JH → Prop
  | 0 => fun _ _ _ _ => False
  | n + 1 => fun r0 r1 x2 h => W_X8_findPrepared_2 D d Q (L_X8_findPrepared_2 D d Q n) r0 r1 x2 h
theorem l_X8_findPrepared_2 {D : JD} {d : Nat} {Q : JO → JH → Prop} : ∀ (n : Nat) (r0 : Nat) (r1 : Nat) (x2 : Int32) (h : JH), L_X8_findPrepared_2 D d Q n r0 r1 x2 h → JW D (d + 1) mX8_findPrepared 2 [some (vR 41 r0), some (vR 64 r1), some (vI x2)] [] h Q := by
  intro n
  induction n with
  | zero => intro _ _ _ _ w; exact w.elim
  | succ n ih => intro _ _ _ h w; exact w_X8_findPrepared_2 ih w
def W_X8_findPrepared_0 (D : JD) (d : Nat) (Q : JO → JH → Prop) (r0 : Nat) (r1 : Nat) (h : JH) : Prop :=
  ∃ n, L_X8_findPrepared_2 D d Q n r0 r1 (0 : Int32) h
theorem w_X8_findPrepared_0 {D : JD} {d : Nat} {Q : JO → JH → Prop} {r0 : Nat} {r1 : Nat} {h : JH} (w : W_X8_findPrepared_0 D d Q r0 r1 h) : JW D (d + 1) mX8_findPrepared 0 [some (vR 41 r0), some (vR 64 r1), none] [] h Q := by
  unfold W_X8_findPrepared_0 at w
  refine jw_iconst (pc' := 1) (x := (0 : Int32)) rfl rfl ?_
  refine jw_istore_n (pc' := 2) (ls' := [some (vR 41 r0), some (vR 64 r1), some (vI (0 : Int32))]) rfl (by decide) rfl ?_
  obtain ⟨n, w⟩ := w
  exact l_X8_findPrepared_2 n _ _ _ _ w
def T_X8_findPrepared (D : JD) (d : Nat) (Q : JO → JH → Prop) (r0 : Nat) (r1 : Nat) (h : JH) : Prop := W_X8_findPrepared_0 D d Q r0 r1 h
theorem t_X8_findPrepared {D : JD} {d : Nat} {Q : JO → JH → Prop} {r0 : Nat} {r1 : Nat} {h : JH} (w : T_X8_findPrepared D d Q r0 r1 h) : cX8_findPrepared D (d + 1) r0 r1 h Q := by
  unfold T_X8_findPrepared at w
  unfold cX8_findPrepared
  exact w_X8_findPrepared_0 w
def W_X8_bind_340 (D : JD) (d : Nat) (Q : JO → JH → Prop) (K340 : Nat → Int32 → Nat → Nat → Int32 → JH → Prop) (r0 : Nat) (x3 : Int32) (r6 : Nat) (r8 : Nat) (x9 : Int32) (h : JH) : Prop :=
  (x3 ≤ x9 → r8 ≠ 0 ∧ ∀ h_3 : JH, h_3 = wfi h 324 r8 (0 : Int32) → (∀ h_5 : JH, h_5 = wfi h_3 326 r8 (0 : Int32) → (r0 ≠ 0 ∧ (cX8_empty D d r0 (50 : Int32) h_5 (pV D h_5 (fun h_8 => Q (.inl none) h_8) (jth Q)))))) ∧ (¬ x3 ≤ x9 → r8 ≠ 0 ∧ (r6 ≠ 0 ∧ ((jfr h 317 r6) ≠ 0 ∧ jin x9 (jln h (jfr h 317 r6)) ∧ ((jfr h 321 r8) ≠ 0 ∧ jin x9 (jln h (jfr h 321 r8)) ∧ ∀ h_17 : JH, h_17 = wai h (jfr h 321 r8) (ixn x9) (jai h (jfr h 317 r6) (ixn x9)) → ((jfr h_17 322 r8) ≠ 0 ∧ jin x9 (jln h_17 (jfr h_17 322 r8)) ∧ (r0 ≠ 0 ∧ ((jfr h_17 243 r0) ≠ 0 ∧ jin x9 (jln h_17 (jfr h_17 243 r0)) ∧ ((jar h_17 (jfr h_17 322 r8) (ixn x9)) ≠ 0 ∧ (cX13_take D d (jar h_17 (jfr h_17 322 r8) (ixn x9)) (jar h_17 (jfr h_17 243 r0) (ixn x9)) h_17 (pV D h_17 (fun h_25 => K340 r0 x3 r6 r8 (x9 + (1 : Int32)) h_25) (jth Q)))))))))))
theorem w_X8_bind_340 {D : JD} {d : Nat} {Q : JO → JH → Prop} {K340 : Nat → Int32 → Nat → Nat → Int32 → JH → Prop} {r0 : Nat} {x3 : Int32} {r6 : Nat} {r8 : Nat} {x9 : Int32} {h : JH} (hK340 : ∀ (r0 : Nat) (x3 : Int32) (r6 : Nat) (r8 : Nat) (x9 : Int32) (h : JH), K340 r0 x3 r6 r8 x9 h → JW D (d + 1) mX8_bind 340 [some (vR 41 r0), none, none, some (vI x3), none, none, some (vR 49 r6), none, some (vR 50 r8), some (vI x9)] [] h Q) (w : W_X8_bind_340 D d Q K340 r0 x3 r6 r8 x9 h) : JW D (d + 1) mX8_bind 340 [some (vR 41 r0), none, none, some (vI x3), none, none, some (vR 49 r6), none, some (vR 50 r8), some (vI x9)] [] h Q := by
  unfold W_X8_bind_340 at w
  refine jw_iload (pc' := 342) rfl rfl ?_
  refine jw_iload_n (pc' := 343) rfl rfl ?_
  refine jw_icmp_ge (tgt := 386) (pc' := 346) rfl rfl (fun c_1 => ?_) (fun c_1 => ?_)
  · replace w := w.1 c_1
    refine jw_aload (pc' := 388) rfl rfl ?_
    refine jw_iconst (pc' := 389) (x := (0 : Int32)) rfl rfl ?_
    obtain ⟨g_2, w⟩ := w
    refine jw_putI' (pc' := 392) (F := 324) rfl rfl rfl (Or.inr rfl) (Or.inl rfl) rfl (rfl) (rfl) rfl g_2 (fun h_3 e_4 => ?_)
    replace w := w h_3 e_4
    refine jw_aload (pc' := 394) rfl rfl ?_
    refine jw_iconst (pc' := 395) (x := (0 : Int32)) rfl rfl ?_
    refine jw_putI' (pc' := 398) (F := 326) rfl rfl rfl (Or.inr rfl) (Or.inl rfl) rfl (rfl) (rfl) rfl g_2 (fun h_5 e_6 => ?_)
    replace w := w h_5 e_6
    refine jw_aload_n (pc' := 399) rfl rfl ?_
    refine jw_bipush (pc' := 401) (x := (50 : Int32)) rfl rfl ?_
    obtain ⟨g_7, w⟩ := w
    refine jw_cV (st := []) (sa := [vR 41 r0, vI (50 : Int32)]) okX8_empty rfl rfl rfl rfl rfl rfl (jstp_virtual (sa := [vI (50 : Int32)]) (st := []) (k := 0) rfl rfl sX8_empty okX8_empty g_7 (one41.k g_7) rfl rfl) w (fun h_8 _ _ w => ?_)
    exact jw_return rfl rfl w
  · replace w := w.2 c_1
    refine jw_aload (pc' := 348) rfl rfl ?_
    obtain ⟨g_11, w⟩ := w
    refine jw_getR (pc' := 351) (F := 321) (t' := 217) rfl rfl rfl rfl rfl g_11 ?_
    refine jw_iload (pc' := 353) rfl rfl ?_
    refine jw_aload (pc' := 355) rfl rfl ?_
    obtain ⟨g_12, w⟩ := w
    refine jw_getR (pc' := 358) (F := 317) (t' := 216) rfl rfl rfl rfl rfl g_12 ?_
    refine jw_iload (pc' := 360) rfl rfl ?_
    obtain ⟨g_13, w⟩ := w
    obtain ⟨g_14, w⟩ := w
    refine jw_iald (pc' := 361) rfl rfl rfl rfl g_13 g_14.ix g_14.2 ?_
    obtain ⟨g_15, w⟩ := w
    obtain ⟨g_16, w⟩ := w
    refine jw_iast' (pc' := 362) rfl rfl rfl rfl rfl g_15 g_16 (fun h_17 e_18 => ?_)
    replace w := w h_17 e_18
    refine jw_aload (pc' := 364) rfl rfl ?_
    refine jw_getR (pc' := 367) (F := 322) (t' := 218) rfl rfl rfl rfl rfl g_11 ?_
    refine jw_iload (pc' := 369) rfl rfl ?_
    obtain ⟨g_19, w⟩ := w
    obtain ⟨g_20, w⟩ := w
    refine jw_aald (pc' := 370) (t' := 46) rfl rfl rfl rfl g_19 g_20.ix g_20.2 ?_
    refine jw_aload_n (pc' := 371) rfl rfl ?_
    obtain ⟨g_21, w⟩ := w
    refine jw_getR (pc' := 374) (F := 243) (t' := 185) rfl rfl rfl rfl rfl g_21 ?_
    refine jw_iload (pc' := 376) rfl rfl ?_
    obtain ⟨g_22, w⟩ := w
    obtain ⟨g_23, w⟩ := w
    refine jw_aald (pc' := 377) (t' := 46) rfl rfl rfl rfl g_22 g_23.ix g_23.2 ?_
    obtain ⟨g_24, w⟩ := w
    refine jw_cV (st := []) (sa := [vR 46 (jar h_17 (jfr h_17 322 r8) (ixn x9)), vR 46 (jar h_17 (jfr h_17 243 r0) (ixn x9))]) okX13_take rfl rfl rfl rfl rfl rfl (jstp_virtual (sa := [vR 46 (jar h_17 (jfr h_17 243 r0) (ixn x9))]) (st := []) (k := 0) rfl rfl sX13_take okX13_take g_24 (one46.k g_24) rfl rfl) w (fun h_25 _ _ w => ?_)
    refine jw_iinc (pc' := 383) (y := x9 + (1 : Int32)) (ls' := [some (vR 41 r0), none, none, some (vI x3), none, none, some (vR 49 r6), none, some (vR 50 r8), some (vI (x9 + (1 : Int32)))]) rfl (by decide) rfl rfl rfl ?_
    refine jw_goto (pc' := 340) rfl rfl ?_
    exact hK340 _ _ _ _ _ _ w
def L_X8_bind_340 (D : JD) (d : Nat) (Q : JO → JH → Prop) : Nat → Nat → Int32 → Nat → Nat → Int32 → JH → Prop
  | 0 => fun _ _ _ _ _ _ => False
  | n + 1 => fun r0 x3 r6 r8 x9 h => W_X8_bind_340 D d Q (L_X8_bind_340 D d Q n) r0 x3 r6 r8 x9 h
theorem l_X8_bind_340 {D : JD} {d : Nat} {Q : JO → JH → Prop} : ∀ (n : Nat) (r0 : Nat) (x3 : Int32) (r6 : Nat) (r8 : Nat) (x9 : Int32) (h : JH), L_X8_bind_340 D d Q n r0 x3 r6 r8 x9 h → JW D (d + 1) mX8_bind 340 [some (vR 41 r0), none, none, some (vI x3), none, none, some (vR 49 r6), none, some (vR 50 r8), some (vI x9)] [] h Q := by
  intro n
  induction n with
  | zero => intro _ _ _ _ _ _ w; exact w.elim
  | succ n ih => intro _ _ _ _ _ h w; exact w_X8_bind_340 ih w
def W_X8_bind_306 (D : JD) (d : Nat) (Q : JO → JH → Prop) (r0 : Nat) (r1 : Nat) (x3 : Int32) (r6 : Nat) (x7 : Int32) (h : JH) : Prop :=
  r0 ≠ 0 ∧ ((jfr h 233 r0) ≠ 0 ∧ jin x7 (jln h (jfr h 233 r0)) ∧ ((jar h (jfr h 233 r0) (ixn x7)) ≠ 0 ∧ ∀ h_5 : JH, h_5 = wfr h 319 (jar h (jfr h 233 r0) (ixn x7)) r1 → (r6 ≠ 0 ∧ (∀ h_8 : JH, h_8 = wfr h_5 320 (jar h (jfr h 233 r0) (ixn x7)) (jfr h_5 316 r6) → (∀ h_10 : JH, h_10 = wfi h_8 323 (jar h (jfr h 233 r0) (ixn x7)) x3 → (∃ n, L_X8_bind_340 D d Q n r0 x3 r6 (jar h (jfr h 233 r0) (ixn x7)) (0 : Int32) h_10))))))
theorem w_X8_bind_306 {D : JD} {d : Nat} {Q : JO → JH → Prop} {r0 : Nat} {r1 : Nat} {x3 : Int32} {r6 : Nat} {x7 : Int32} {h : JH} (w : W_X8_bind_306 D d Q r0 r1 x3 r6 x7 h) : JW D (d + 1) mX8_bind 306 [some (vR 41 r0), some (vR 64 r1), none, some (vI x3), none, none, some (vR 49 r6), some (vI x7), none, none] [] h Q := by
  unfold W_X8_bind_306 at w
  refine jw_aload_n (pc' := 307) rfl rfl ?_
  obtain ⟨g_1, w⟩ := w
  refine jw_getR (pc' := 310) (F := 233) (t' := 182) rfl rfl rfl rfl rfl g_1 ?_
  refine jw_iload (pc' := 312) rfl rfl ?_
  obtain ⟨g_2, w⟩ := w
  obtain ⟨g_3, w⟩ := w
  refine jw_aald (pc' := 313) (t' := 50) rfl rfl rfl rfl g_2 g_3.ix g_3.2 ?_
  refine jw_astore (pc' := 315) (ls' := [some (vR 41 r0), some (vR 64 r1), none, some (vI x3), none, none, some (vR 49 r6), some (vI x7), some (vR 50 (jar h (jfr h 233 r0) (ixn x7))), none]) rfl (by decide) rfl ?_
  refine jw_aload (pc' := 317) rfl rfl ?_
  refine jw_aload_n (pc' := 318) rfl rfl ?_
  obtain ⟨g_4, w⟩ := w
  refine jw_putR' (pc' := 321) (F := 319) rfl rfl rfl (Or.inr rfl) (Or.inl rfl) rfl rfl rfl g_4 (fun h_5 e_6 => ?_)
  replace w := w h_5 e_6
  refine jw_aload (pc' := 323) rfl rfl ?_
  refine jw_aload (pc' := 325) rfl rfl ?_
  obtain ⟨g_7, w⟩ := w
  refine jw_getR (pc' := 328) (F := 316) (t' := 47) rfl rfl rfl rfl rfl g_7 ?_
  refine jw_putR' (pc' := 331) (F := 320) rfl rfl rfl (Or.inr rfl) (Or.inl rfl) rfl rfl rfl g_4 (fun h_8 e_9 => ?_)
  replace w := w h_8 e_9
  refine jw_aload (pc' := 333) rfl rfl ?_
  refine jw_iload_n (pc' := 334) rfl rfl ?_
  refine jw_putI' (pc' := 337) (F := 323) rfl rfl rfl (Or.inr rfl) (Or.inl rfl) rfl (rfl) (rfl) rfl g_4 (fun h_10 e_11 => ?_)
  replace w := w h_10 e_11
  refine jw_iconst (pc' := 338) (x := (0 : Int32)) rfl rfl ?_
  refine jw_istore (pc' := 340) (ls' := [some (vR 41 r0), some (vR 64 r1), none, some (vI x3), none, none, some (vR 49 r6), some (vI x7), some (vR 50 (jar h (jfr h 233 r0) (ixn x7))), some (vI (0 : Int32))]) rfl (by decide) rfl ?_
  refine jw_gen (ls' := [some (vR 41 r0), none, none, some (vI x3), none, none, some (vR 49 r6), none, some (vR 50 (jar h (jfr h 233 r0) (ixn x7))), some (vI (0 : Int32))]) (st' := []) (And.intro (Or.inl rfl) (And.intro (Or.inl rfl) (And.intro (Or.inl rfl) (And.intro (Or.inl rfl) (And.intro (Or.inl rfl) (trivial)))))) (trivial) ?_
  obtain ⟨n, w⟩ := w
  exact l_X8_bind_340 n _ _ _ _ _ _ w
def W_X8_bind_230 (D : JD) (d : Nat) (Q : JO → JH → Prop) (K230 : Nat → Nat → Int32 → Nat → Int32 → Int32 → JH → Prop) (r0 : Nat) (r1 : Nat) (x3 : Int32) (r6 : Nat) (x7 : Int32) (x8 : Int32) (h : JH) : Prop :=
  (x3 ≤ x8 → (0 ≤ x7 → W_X8_bind_306 D d Q r0 r1 x3 r6 x7 h) ∧ (¬ 0 ≤ x7 → r0 ≠ 0 ∧ (∀ h_4 : JH, h_4 = wfi h 234 r0 ((jfi h 234 r0) + (1 : Int32)) → ((jfr h_4 233 r0) ≠ 0 ∧ jin (jfi h 234 r0) (jln h_4 (jfr h_4 233 r0)) ∧ (((jar h_4 (jfr h_4 233 r0) (ixn (jfi h 234 r0))) ≠ 0 → W_X8_bind_306 D d Q r0 r1 x3 r6 (jfi h 234 r0) h_4) ∧ ((jar h_4 (jfr h_4 233 r0) (ixn (jfi h 234 r0))) = 0 → ∀ (r_9 : Nat) (h_10 : JH), r_9 = jsz h_4 + 1 → h_10 = nwo h_4 50 8 → (cX48_init D d r_9 h_10 (pV D h_10 (fun h_13 => jin (jfi h 234 r0) (jln h_13 (jfr h_4 233 r0)) ∧ ∀ h_17 : JH, h_17 = war h_13 (jfr h_4 233 r0) (ixn (jfi h 234 r0)) r_9 → (W_X8_bind_306 D d Q r0 r1 x3 r6 (jfi h 234 r0) h_17)) (jth Q))))))))) ∧ (¬ x3 ≤ x8 → r6 ≠ 0 ∧ ((jfr h 317 r6) ≠ 0 ∧ jin x8 (jln h (jfr h 317 r6)) ∧ (r0 ≠ 0 ∧ ((jfr h 243 r0) ≠ 0 ∧ jin x8 (jln h (jfr h 243 r0)) ∧ (cX8_parameter D d r0 (jai h (jfr h 317 r6) (ixn x8)) (jar h (jfr h 243 r0) (ixn x8)) h (pV D h (fun h_25 => K230 r0 r1 x3 r6 x7 (x8 + (1 : Int32)) h_25) (jth Q)))))))
theorem w_X8_bind_230 {D : JD} {d : Nat} {Q : JO → JH → Prop} {K230 : Nat → Nat → Int32 → Nat → Int32 → Int32 → JH → Prop} {r0 : Nat} {r1 : Nat} {x3 : Int32} {r6 : Nat} {x7 : Int32} {x8 : Int32} {h : JH} (hK230 : ∀ (r0 : Nat) (r1 : Nat) (x3 : Int32) (r6 : Nat) (x7 : Int32) (x8 : Int32) (h : JH), K230 r0 r1 x3 r6 x7 x8 h → JW D (d + 1) mX8_bind 230 [some (vR 41 r0), some (vR 64 r1), none, some (vI x3), none, none, some (vR 49 r6), some (vI x7), some (vI x8), none] [] h Q) (w : W_X8_bind_230 D d Q K230 r0 r1 x3 r6 x7 x8 h) : JW D (d + 1) mX8_bind 230 [some (vR 41 r0), some (vR 64 r1), none, some (vI x3), none, none, some (vR 49 r6), some (vI x7), some (vI x8), none] [] h Q := by
  unfold W_X8_bind_230 at w
  refine jw_iload (pc' := 232) rfl rfl ?_
  refine jw_iload_n (pc' := 233) rfl rfl ?_
  refine jw_icmp_ge (tgt := 261) (pc' := 236) rfl rfl (fun c_1 => ?_) (fun c_1 => ?_)
  · replace w := w.1 c_1
    refine jw_iload (pc' := 263) rfl rfl ?_
    refine jw_if_ge (tgt := 306) (pc' := 266) rfl rfl (fun c_2 => ?_) (fun c_2 => ?_)
    · replace w := w.1 c_2
      refine jw_gen (ls' := [some (vR 41 r0), some (vR 64 r1), none, some (vI x3), none, none, some (vR 49 r6), some (vI x7), none, none]) (st' := []) (And.intro (Or.inl rfl) (And.intro (Or.inl rfl) (And.intro (Or.inl rfl) (And.intro (Or.inl rfl) (And.intro (Or.inl rfl) (trivial)))))) (trivial) ?_
      exact w_X8_bind_306 w
    · replace w := w.2 c_2
      refine jw_aload_n (pc' := 267) rfl rfl ?_
      obtain ⟨g_3, w⟩ := w
      refine jw_getI (pc' := 270) (F := 234) rfl rfl rfl rfl g_3 ?_
      refine jw_istore (pc' := 272) (ls' := [some (vR 41 r0), some (vR 64 r1), none, some (vI x3), none, none, some (vR 49 r6), some (vI (jfi h 234 r0)), some (vI x8), none]) rfl (by decide) rfl ?_
      refine jw_aload_n (pc' := 273) rfl rfl ?_
      refine jw_dup (pc' := 274) rfl rfl ?_
      refine jw_getI (pc' := 277) (F := 234) rfl rfl rfl rfl g_3 ?_
      refine jw_iconst (pc' := 278) (x := (1 : Int32)) rfl rfl ?_
      refine jw_iadd (pc' := 279) rfl ?_
      refine jw_putI' (pc' := 282) (F := 234) rfl rfl rfl (Or.inr rfl) (Or.inl rfl) rfl (rfl) (rfl) rfl g_3 (fun h_4 e_5 => ?_)
      replace w := w h_4 e_5
      refine jw_aload_n (pc' := 283) rfl rfl ?_
      refine jw_getR (pc' := 286) (F := 233) (t' := 182) rfl rfl rfl rfl rfl g_3 ?_
      refine jw_iload (pc' := 288) rfl rfl ?_
      obtain ⟨g_6, w⟩ := w
      obtain ⟨g_7, w⟩ := w
      refine jw_aald (pc' := 289) (t' := 50) rfl rfl rfl rfl g_6 g_7.ix g_7.2 ?_
      refine jw_ifnonnull (tgt := 306) (pc' := 292) rfl rfl (fun c_8 => ?_) (fun c_8 => ?_)
      · replace w := w.1 c_8
        refine jw_gen (ls' := [some (vR 41 r0), some (vR 64 r1), none, some (vI x3), none, none, some (vR 49 r6), some (vI (jfi h 234 r0)), none, none]) (st' := []) (And.intro (Or.inl rfl) (And.intro (Or.inl rfl) (And.intro (Or.inl rfl) (And.intro (Or.inl rfl) (And.intro (Or.inl rfl) (trivial)))))) (trivial) ?_
        exact w_X8_bind_306 w
      · replace w := w.2 c_8
        refine jw_aload_n (pc' := 293) rfl rfl ?_
        refine jw_getR (pc' := 296) (F := 233) (t' := 182) rfl rfl rfl rfl rfl g_3 ?_
        refine jw_iload (pc' := 298) rfl rfl ?_
        refine jw_new' (pc' := 301) (k := 50) (n := 8) rfl rfl rfl rfl rfl rfl rfl (fun r_9 h_10 e_11 e_12 => ?_)
        replace w := w r_9 h_10 e_11 e_12
        refine jw_dup (pc' := 302) rfl rfl ?_
        refine jw_cV (st := [vR 50 r_9, vI (jfi h 234 r0), vR 182 (jfr h_4 233 r0)]) (sa := [vR 50 r_9]) okX48_init rfl rfl rfl rfl rfl rfl (jstp_init (sa := []) (st := [vR 50 r_9, vI (jfi h 234 r0), vR 182 (jfr h_4 233 r0)]) rfl rfl sX48_init okX48_init (lw_g (jtb_mem (c := 21) (i := 96) rfl) rfl) (jnz e_11) rfl rfl) w (fun h_13 _ _ w => ?_)
        obtain ⟨g_16, w⟩ := w
        refine jw_aast' (pc' := 306) rfl rfl rfl rfl rfl rfl g_6 g_16 (fun h_17 e_18 => ?_)
        replace w := w h_17 e_18
        refine jw_gen (ls' := [some (vR 41 r0), some (vR 64 r1), none, some (vI x3), none, none, some (vR 49 r6), some (vI (jfi h 234 r0)), none, none]) (st' := []) (And.intro (Or.inl rfl) (And.intro (Or.inl rfl) (And.intro (Or.inl rfl) (And.intro (Or.inl rfl) (And.intro (Or.inl rfl) (trivial)))))) (trivial) ?_
        exact w_X8_bind_306 w
  · replace w := w.2 c_1
    refine jw_aload_n (pc' := 237) rfl rfl ?_
    refine jw_aload (pc' := 239) rfl rfl ?_
    obtain ⟨g_19, w⟩ := w
    refine jw_getR (pc' := 242) (F := 317) (t' := 216) rfl rfl rfl rfl rfl g_19 ?_
    refine jw_iload (pc' := 244) rfl rfl ?_
    obtain ⟨g_20, w⟩ := w
    obtain ⟨g_21, w⟩ := w
    refine jw_iald (pc' := 245) rfl rfl rfl rfl g_20 g_21.ix g_21.2 ?_
    refine jw_aload_n (pc' := 246) rfl rfl ?_
    obtain ⟨g_22, w⟩ := w
    refine jw_getR (pc' := 249) (F := 243) (t' := 185) rfl rfl rfl rfl rfl g_22 ?_
    refine jw_iload (pc' := 251) rfl rfl ?_
    obtain ⟨g_23, w⟩ := w
    obtain ⟨g_24, w⟩ := w
    refine jw_aald (pc' := 252) (t' := 46) rfl rfl rfl rfl g_23 g_24.ix g_24.2 ?_
    refine jw_cV (st := []) (sa := [vR 41 r0, vI (jai h (jfr h 317 r6) (ixn x8)), vR 46 (jar h (jfr h 243 r0) (ixn x8))]) okX8_parameter rfl rfl rfl rfl rfl rfl (jstp_virtual (sa := [vI (jai h (jfr h 317 r6) (ixn x8)), vR 46 (jar h (jfr h 243 r0) (ixn x8))]) (st := []) (k := 0) rfl rfl sX8_parameter okX8_parameter g_22 (one41.k g_22) rfl rfl) w (fun h_25 _ _ w => ?_)
    refine jw_iinc (pc' := 258) (y := x8 + (1 : Int32)) (ls' := [some (vR 41 r0), some (vR 64 r1), none, some (vI x3), none, none, some (vR 49 r6), some (vI x7), some (vI (x8 + (1 : Int32))), none]) rfl (by decide) rfl rfl rfl ?_
    refine jw_goto (pc' := 230) rfl rfl ?_
    exact hK230 _ _ _ _ _ _ _ w
def L_X8_bind_230 (D : JD) (d : Nat) (Q : JO → JH → Prop) : Nat → Nat → Nat → Int32 → Nat → Int32 → Int32 → JH → Prop
  | 0 => fun _ _ _ _ _ _ _ => False
  | n + 1 => fun r0 r1 x3 r6 x7 x8 h => W_X8_bind_230 D d Q (L_X8_bind_230 D d Q n) r0 r1 x3 r6 x7 x8 h
theorem l_X8_bind_230 {D : JD} {d : Nat} {Q : JO → JH → Prop} : ∀ (n : Nat) (r0 : Nat) (r1 : Nat) (x3 : Int32) (r6 : Nat) (x7 : Int32) (x8 : Int32) (h : JH), L_X8_bind_230 D d Q n r0 r1 x3 r6 x7 x8 h → JW D (d + 1) mX8_bind 230 [some (vR 41 r0), some (vR 64 r1), none, some (vI x3), none, none, some (vR 49 r6), some (vI x7), some (vI x8), none] [] h Q := by
  intro n
  induction n with
  | zero => intro _ _ _ _ _ _ _ w; exact w.elim
  | succ n ih => intro _ _ _ _ _ _ h w; exact w_X8_bind_230 ih w
def W_X8_bind_215 (D : JD) (d : Nat) (Q : JO → JH → Prop) (r0 : Nat) (r1 : Nat) (x3 : Int32) (x4 : Int32) (r6 : Nat) (x7 : Int32) (q0 : Nat) (s1 : Int32) (h : JH) : Prop :=
  q0 ≠ 0 ∧ (cX8_must D d q0 s1 (jcs D 302) h (pV D h (fun h_2 => r0 ≠ 0 ∧ ∀ h_6 : JH, h_6 = wfi h_2 238 r0 x4 → (∃ n, L_X8_bind_230 D d Q n r0 r1 x3 r6 x7 (0 : Int32) h_6)) (jth Q)))
theorem w_X8_bind_215 {D : JD} {d : Nat} {Q : JO → JH → Prop} {r0 : Nat} {r1 : Nat} {x3 : Int32} {x4 : Int32} {r6 : Nat} {x7 : Int32} {q0 : Nat} {s1 : Int32} {h : JH} (w : W_X8_bind_215 D d Q r0 r1 x3 x4 r6 x7 q0 s1 h) : JW D (d + 1) mX8_bind 215 [some (vR 41 r0), some (vR 64 r1), none, some (vI x3), some (vI x4), none, some (vR 49 r6), some (vI x7), none, none] [vI s1, vR 41 q0] h Q := by
  unfold W_X8_bind_215 at w
  refine jw_ldcwS (pc' := 218) rfl rfl rfl rfl ?_
  obtain ⟨g_1, w⟩ := w
  refine jw_cV (st := []) (sa := [vR 41 q0, vI s1, vR 51 (jcs D 302)]) okX8_must rfl rfl rfl rfl rfl rfl (jstp_virtual (sa := [vI s1, vR 51 (jcs D 302)]) (st := []) (k := 0) rfl rfl sX8_must okX8_must g_1 (one41.k g_1) rfl rfl) w (fun h_2 _ _ w => ?_)
  refine jw_aload_n (pc' := 222) rfl rfl ?_
  refine jw_iload (pc' := 224) rfl rfl ?_
  obtain ⟨g_5, w⟩ := w
  refine jw_putI' (pc' := 227) (F := 238) rfl rfl rfl (Or.inr rfl) (Or.inl rfl) rfl (rfl) (rfl) rfl g_5 (fun h_6 e_7 => ?_)
  replace w := w h_6 e_7
  refine jw_iconst (pc' := 228) (x := (0 : Int32)) rfl rfl ?_
  refine jw_istore (pc' := 230) (ls' := [some (vR 41 r0), some (vR 64 r1), none, some (vI x3), some (vI x4), none, some (vR 49 r6), some (vI x7), some (vI (0 : Int32)), none]) rfl (by decide) rfl ?_
  refine jw_gen (ls' := [some (vR 41 r0), some (vR 64 r1), none, some (vI x3), none, none, some (vR 49 r6), some (vI x7), some (vI (0 : Int32)), none]) (st' := []) (And.intro (Or.inl rfl) (And.intro (Or.inl rfl) (And.intro (Or.inl rfl) (And.intro (Or.inl rfl) (And.intro (Or.inl rfl) (And.intro (Or.inl rfl) (trivial))))))) (trivial) ?_
  obtain ⟨n, w⟩ := w
  exact l_X8_bind_230 n _ _ _ _ _ _ _ w
def W_X8_bind_210 (D : JD) (d : Nat) (Q : JO → JH → Prop) (r0 : Nat) (r1 : Nat) (x3 : Int32) (x4 : Int32) (r6 : Nat) (x7 : Int32) (q0 : Nat) (h : JH) : Prop :=
  W_X8_bind_215 D d Q r0 r1 x3 x4 r6 x7 q0 (1 : Int32) h
theorem w_X8_bind_210 {D : JD} {d : Nat} {Q : JO → JH → Prop} {r0 : Nat} {r1 : Nat} {x3 : Int32} {x4 : Int32} {r6 : Nat} {x7 : Int32} {q0 : Nat} {h : JH} (w : W_X8_bind_210 D d Q r0 r1 x3 x4 r6 x7 q0 h) : JW D (d + 1) mX8_bind 210 [some (vR 41 r0), some (vR 64 r1), none, some (vI x3), some (vI x4), none, some (vR 49 r6), some (vI x7), none, none] [vR 41 q0] h Q := by
  unfold W_X8_bind_210 at w
  refine jw_iconst (pc' := 211) (x := (1 : Int32)) rfl rfl ?_
  refine jw_goto (pc' := 215) rfl rfl ?_
  exact w_X8_bind_215 w
def W_X8_bind_190 (D : JD) (d : Nat) (Q : JO → JH → Prop) (r0 : Nat) (r1 : Nat) (x3 : Int32) (x4 : Int32) (r6 : Nat) (x7 : Int32) (q0 : Nat) (s1 : Int32) (h : JH) : Prop :=
  q0 ≠ 0 ∧ (cX8_must D d q0 s1 (jcs D 338) h (pV D h (fun h_2 => (0 ≤ x7 → W_X8_bind_210 D d Q r0 r1 x3 x4 r6 x7 r0 h_2) ∧ (¬ 0 ≤ x7 → r0 ≠ 0 ∧ (((4 : Int32) ≤ (jfi h_2 234 r0) → W_X8_bind_215 D d Q r0 r1 x3 x4 r6 x7 r0 (0 : Int32) h_2) ∧ (¬ (4 : Int32) ≤ (jfi h_2 234 r0) → W_X8_bind_210 D d Q r0 r1 x3 x4 r6 x7 r0 h_2)))) (jth Q)))
theorem w_X8_bind_190 {D : JD} {d : Nat} {Q : JO → JH → Prop} {r0 : Nat} {r1 : Nat} {x3 : Int32} {x4 : Int32} {r6 : Nat} {x7 : Int32} {q0 : Nat} {s1 : Int32} {h : JH} (w : W_X8_bind_190 D d Q r0 r1 x3 x4 r6 x7 q0 s1 h) : JW D (d + 1) mX8_bind 190 [some (vR 41 r0), some (vR 64 r1), none, some (vI x3), some (vI x4), none, some (vR 49 r6), some (vI x7), none, none] [vI s1, vR 41 q0] h Q := by
  unfold W_X8_bind_190 at w
  refine jw_ldcwS (pc' := 193) rfl rfl rfl rfl ?_
  obtain ⟨g_1, w⟩ := w
  refine jw_cV (st := []) (sa := [vR 41 q0, vI s1, vR 51 (jcs D 338)]) okX8_must rfl rfl rfl rfl rfl rfl (jstp_virtual (sa := [vI s1, vR 51 (jcs D 338)]) (st := []) (k := 0) rfl rfl sX8_must okX8_must g_1 (one41.k g_1) rfl rfl) w (fun h_2 _ _ w => ?_)
  refine jw_aload_n (pc' := 197) rfl rfl ?_
  refine jw_iload (pc' := 199) rfl rfl ?_
  refine jw_if_ge (tgt := 210) (pc' := 202) rfl rfl (fun c_5 => ?_) (fun c_5 => ?_)
  · replace w := w.1 c_5
    exact w_X8_bind_210 w
  · replace w := w.2 c_5
    refine jw_aload_n (pc' := 203) rfl rfl ?_
    obtain ⟨g_6, w⟩ := w
    refine jw_getI (pc' := 206) (F := 234) rfl rfl rfl rfl g_6 ?_
    refine jw_iconst (pc' := 207) (x := (4 : Int32)) rfl rfl ?_
    refine jw_icmp_ge (tgt := 214) (pc' := 210) rfl rfl (fun c_7 => ?_) (fun c_7 => ?_)
    · replace w := w.1 c_7
      refine jw_iconst (pc' := 215) (x := (0 : Int32)) rfl rfl ?_
      exact w_X8_bind_215 w
    · replace w := w.2 c_7
      exact w_X8_bind_210 w
def W_X8_bind_185 (D : JD) (d : Nat) (Q : JO → JH → Prop) (r0 : Nat) (r1 : Nat) (x3 : Int32) (x4 : Int32) (r6 : Nat) (x7 : Int32) (q0 : Nat) (h : JH) : Prop :=
  W_X8_bind_190 D d Q r0 r1 x3 x4 r6 x7 q0 (1 : Int32) h
theorem w_X8_bind_185 {D : JD} {d : Nat} {Q : JO → JH → Prop} {r0 : Nat} {r1 : Nat} {x3 : Int32} {x4 : Int32} {r6 : Nat} {x7 : Int32} {q0 : Nat} {h : JH} (w : W_X8_bind_185 D d Q r0 r1 x3 x4 r6 x7 q0 h) : JW D (d + 1) mX8_bind 185 [some (vR 41 r0), some (vR 64 r1), none, some (vI x3), some (vI x4), none, some (vR 49 r6), some (vI x7), none, none] [vR 41 q0] h Q := by
  unfold W_X8_bind_185 at w
  refine jw_iconst (pc' := 186) (x := (1 : Int32)) rfl rfl ?_
  refine jw_goto (pc' := 190) rfl rfl ?_
  exact w_X8_bind_190 w
def W_X8_bind_162 (D : JD) (d : Nat) (Q : JO → JH → Prop) (r0 : Nat) (r1 : Nat) (x3 : Int32) (x4 : Int32) (r6 : Nat) (q0 : Nat) (s1 : Int32) (h : JH) : Prop :=
  q0 ≠ 0 ∧ (cX8_whole D d q0 s1 h (pV D h (fun h_2 => r0 ≠ 0 ∧ (cX8_findPortal D d r0 r1 h_2 (pI D h_2 (fun v_8 h_6 => (v_8 < 0 → W_X8_bind_185 D d Q r0 r1 x3 x4 r6 v_8 r0 h_6) ∧ (¬ v_8 < 0 → r1 ≠ 0 ∧ (cJ5_length D d r1 h_6 (pI D h_6 (fun v_13 h_11 => (¬ v_13 = 0 → W_X8_bind_190 D d Q r0 r1 x3 x4 r6 v_8 r0 (0 : Int32) h_11) ∧ (v_13 = 0 → W_X8_bind_185 D d Q r0 r1 x3 x4 r6 v_8 r0 h_11)) (jth Q))))) (jth Q)))) (jth Q)))
theorem w_X8_bind_162 {D : JD} {d : Nat} {Q : JO → JH → Prop} {r0 : Nat} {r1 : Nat} {x3 : Int32} {x4 : Int32} {r6 : Nat} {q0 : Nat} {s1 : Int32} {h : JH} (w : W_X8_bind_162 D d Q r0 r1 x3 x4 r6 q0 s1 h) : JW D (d + 1) mX8_bind 162 [some (vR 41 r0), some (vR 64 r1), none, some (vI x3), some (vI x4), none, some (vR 49 r6), none, none, none] [vI s1, vR 41 q0] h Q := by
  unfold W_X8_bind_162 at w
  obtain ⟨g_1, w⟩ := w
  refine jw_cV (st := []) (sa := [vR 41 q0, vI s1]) okX8_whole rfl rfl rfl rfl rfl rfl (jstp_virtual (sa := [vI s1]) (st := []) (k := 0) rfl rfl sX8_whole okX8_whole g_1 (one41.k g_1) rfl rfl) w (fun h_2 _ _ w => ?_)
  refine jw_aload_n (pc' := 166) rfl rfl ?_
  refine jw_aload_n (pc' := 167) rfl rfl ?_
  obtain ⟨g_5, w⟩ := w
  refine jw_cI (st := []) (sa := [vR 41 r0, vR 64 r1]) okX8_findPortal rfl rfl rfl rfl rfl rfl (jstp_virtual (sa := [vR 64 r1]) (st := []) (k := 0) rfl rfl sX8_findPortal okX8_findPortal g_5 (one41.k g_5) rfl rfl) w (fun v_8 h_6 _ _ w => ?_)
  refine jw_istore (pc' := 172) (ls' := [some (vR 41 r0), some (vR 64 r1), none, some (vI x3), some (vI x4), none, some (vR 49 r6), some (vI v_8), none, none]) rfl (by decide) rfl ?_
  refine jw_aload_n (pc' := 173) rfl rfl ?_
  refine jw_iload (pc' := 175) rfl rfl ?_
  refine jw_if_lt (tgt := 185) (pc' := 178) rfl rfl (fun c_9 => ?_) (fun c_9 => ?_)
  · replace w := w.1 c_9
    exact w_X8_bind_185 w
  · replace w := w.2 c_9
    refine jw_aload_n (pc' := 179) rfl rfl ?_
    obtain ⟨g_10, w⟩ := w
    refine jw_cI (st := [vR 41 r0]) (sa := [vR 64 r1]) okJ5_length rfl rfl rfl rfl rfl rfl (jstp_virtual (sa := []) (st := [vR 41 r0]) (k := 0) rfl rfl sJ5_length okJ5_length g_10 (one64.k g_10) rfl rfl) w (fun v_13 h_11 _ _ w => ?_)
    refine jw_if_ne (tgt := 189) (pc' := 185) rfl rfl (fun c_14 => ?_) (fun c_14 => ?_)
    · replace w := w.1 c_14
      refine jw_iconst (pc' := 190) (x := (0 : Int32)) rfl rfl ?_
      exact w_X8_bind_190 w
    · replace w := w.2 c_14
      exact w_X8_bind_185 w
def W_X8_bind_132 (D : JD) (d : Nat) (Q : JO → JH → Prop) (r0 : Nat) (r1 : Nat) (x3 : Int32) (x4 : Int32) (x5 : Int32) (q0 : Nat) (s1 : Int32) (h : JH) : Prop :=
  q0 ≠ 0 ∧ (cX8_must D d q0 s1 (jcs D 337) h (pV D h (fun h_2 => r0 ≠ 0 ∧ ((jfr h_2 231 r0) ≠ 0 ∧ jin x5 (jln h_2 (jfr h_2 231 r0)) ∧ ((jar h_2 (jfr h_2 231 r0) (ixn x5)) ≠ 0 ∧ ((¬ x3 = (jfi h_2 318 (jar h_2 (jfr h_2 231 r0) (ixn x5))) → W_X8_bind_162 D d Q r0 r1 x3 x4 (jar h_2 (jfr h_2 231 r0) (ixn x5)) r0 (0 : Int32) h_2) ∧ (x3 = (jfi h_2 318 (jar h_2 (jfr h_2 231 r0) (ixn x5))) → W_X8_bind_162 D d Q r0 r1 x3 x4 (jar h_2 (jfr h_2 231 r0) (ixn x5)) r0 (1 : Int32) h_2))))) (jth Q)))
theorem w_X8_bind_132 {D : JD} {d : Nat} {Q : JO → JH → Prop} {r0 : Nat} {r1 : Nat} {x3 : Int32} {x4 : Int32} {x5 : Int32} {q0 : Nat} {s1 : Int32} {h : JH} (w : W_X8_bind_132 D d Q r0 r1 x3 x4 x5 q0 s1 h) : JW D (d + 1) mX8_bind 132 [some (vR 41 r0), some (vR 64 r1), none, some (vI x3), some (vI x4), some (vI x5), none, none, none, none] [vI s1, vR 41 q0] h Q := by
  unfold W_X8_bind_132 at w
  refine jw_ldcwS (pc' := 135) rfl rfl rfl rfl ?_
  obtain ⟨g_1, w⟩ := w
  refine jw_cV (st := []) (sa := [vR 41 q0, vI s1, vR 51 (jcs D 337)]) okX8_must rfl rfl rfl rfl rfl rfl (jstp_virtual (sa := [vI s1, vR 51 (jcs D 337)]) (st := []) (k := 0) rfl rfl sX8_must okX8_must g_1 (one41.k g_1) rfl rfl) w (fun h_2 _ _ w => ?_)
  refine jw_aload_n (pc' := 139) rfl rfl ?_
  obtain ⟨g_5, w⟩ := w
  refine jw_getR (pc' := 142) (F := 231) (t' := 181) rfl rfl rfl rfl rfl g_5 ?_
  refine jw_iload (pc' := 144) rfl rfl ?_
  obtain ⟨g_6, w⟩ := w
  obtain ⟨g_7, w⟩ := w
  refine jw_aald (pc' := 145) (t' := 49) rfl rfl rfl rfl g_6 g_7.ix g_7.2 ?_
  refine jw_astore (pc' := 147) (ls' := [some (vR 41 r0), some (vR 64 r1), none, some (vI x3), some (vI x4), some (vI x5), some (vR 49 (jar h_2 (jfr h_2 231 r0) (ixn x5))), none, none, none]) rfl (by decide) rfl ?_
  refine jw_aload_n (pc' := 148) rfl rfl ?_
  refine jw_iload_n (pc' := 149) rfl rfl ?_
  refine jw_aload (pc' := 151) rfl rfl ?_
  obtain ⟨g_8, w⟩ := w
  refine jw_getI (pc' := 154) (F := 318) rfl rfl rfl rfl g_8 ?_
  refine jw_icmp_ne (tgt := 161) (pc' := 157) rfl rfl (fun c_9 => ?_) (fun c_9 => ?_)
  · replace w := w.1 c_9
    refine jw_iconst (pc' := 162) (x := (0 : Int32)) rfl rfl ?_
    refine jw_gen (ls' := [some (vR 41 r0), some (vR 64 r1), none, some (vI x3), some (vI x4), none, some (vR 49 (jar h_2 (jfr h_2 231 r0) (ixn x5))), none, none, none]) (st' := [vI (0 : Int32), vR 41 r0]) (And.intro (Or.inl rfl) (And.intro (Or.inl rfl) (And.intro (Or.inl rfl) (And.intro (Or.inl rfl) (And.intro (Or.inl rfl) (trivial)))))) (And.intro (Or.inl rfl) (And.intro (Or.inl rfl) (trivial))) ?_
    exact w_X8_bind_162 w
  · replace w := w.2 c_9
    refine jw_iconst (pc' := 158) (x := (1 : Int32)) rfl rfl ?_
    refine jw_goto (pc' := 162) rfl rfl ?_
    refine jw_gen (ls' := [some (vR 41 r0), some (vR 64 r1), none, some (vI x3), some (vI x4), none, some (vR 49 (jar h_2 (jfr h_2 231 r0) (ixn x5))), none, none, none]) (st' := [vI (1 : Int32), vR 41 r0]) (And.intro (Or.inl rfl) (And.intro (Or.inl rfl) (And.intro (Or.inl rfl) (And.intro (Or.inl rfl) (And.intro (Or.inl rfl) (trivial)))))) (And.intro (Or.inl rfl) (And.intro (Or.inl rfl) (trivial))) ?_
    exact w_X8_bind_162 w
def W_X8_bind_99 (D : JD) (d : Nat) (Q : JO → JH → Prop) (K42 : Nat → Nat → Nat → Int32 → Int32 → Int32 → JH → Prop) (r0 : Nat) (r1 : Nat) (r2 : Nat) (x3 : Int32) (x4 : Int32) (x5 : Int32) (h : JH) : Prop :=
  K42 r0 r1 r2 x3 x4 (x5 + (1 : Int32)) h
theorem w_X8_bind_99 {D : JD} {d : Nat} {Q : JO → JH → Prop} {K42 : Nat → Nat → Nat → Int32 → Int32 → Int32 → JH → Prop} {r0 : Nat} {r1 : Nat} {r2 : Nat} {x3 : Int32} {x4 : Int32} {x5 : Int32} {h : JH} (hK42 : ∀ (r0 : Nat) (r1 : Nat) (r2 : Nat) (x3 : Int32) (x4 : Int32) (x5 : Int32) (h : JH), K42 r0 r1 r2 x3 x4 x5 h → JW D (d + 1) mX8_bind 42 [some (vR 41 r0), some (vR 64 r1), some (vR 64 r2), some (vI x3), some (vI x4), some (vI x5), none, none, none, none] [] h Q) (w : W_X8_bind_99 D d Q K42 r0 r1 r2 x3 x4 x5 h) : JW D (d + 1) mX8_bind 99 [some (vR 41 r0), some (vR 64 r1), some (vR 64 r2), some (vI x3), some (vI x4), some (vI x5), none, none, none, none] [] h Q := by
  unfold W_X8_bind_99 at w
  refine jw_iinc (pc' := 102) (y := x5 + (1 : Int32)) (ls' := [some (vR 41 r0), some (vR 64 r1), some (vR 64 r2), some (vI x3), some (vI x4), some (vI (x5 + (1 : Int32))), none, none, none, none]) rfl (by decide) rfl rfl rfl ?_
  refine jw_goto (pc' := 42) rfl rfl ?_
  exact hK42 _ _ _ _ _ _ _ w
def W_X8_bind_80 (D : JD) (d : Nat) (Q : JO → JH → Prop) (K42 : Nat → Nat → Nat → Int32 → Int32 → Int32 → JH → Prop) (r0 : Nat) (r1 : Nat) (r2 : Nat) (x3 : Int32) (x4 : Int32) (x5 : Int32) (x6 : Int32) (q0 : Nat) (s1 : Int32) (h : JH) : Prop :=
  q0 ≠ 0 ∧ (cX8_whole D d q0 s1 h (pV D h (fun h_2 => (x6 ≤ 0 → W_X8_bind_99 D d Q K42 r0 r1 r2 x3 x4 x5 h_2) ∧ (¬ x6 ≤ 0 → r0 ≠ 0 ∧ (∀ h_7 : JH, h_7 = wfi h_2 238 r0 ((jfi h_2 238 r0) + x6) → (W_X8_bind_99 D d Q K42 r0 r1 r2 x3 x4 x5 h_7)))) (jth Q)))
theorem w_X8_bind_80 {D : JD} {d : Nat} {Q : JO → JH → Prop} {K42 : Nat → Nat → Nat → Int32 → Int32 → Int32 → JH → Prop} {r0 : Nat} {r1 : Nat} {r2 : Nat} {x3 : Int32} {x4 : Int32} {x5 : Int32} {x6 : Int32} {q0 : Nat} {s1 : Int32} {h : JH} (hK42 : ∀ (r0 : Nat) (r1 : Nat) (r2 : Nat) (x3 : Int32) (x4 : Int32) (x5 : Int32) (h : JH), K42 r0 r1 r2 x3 x4 x5 h → JW D (d + 1) mX8_bind 42 [some (vR 41 r0), some (vR 64 r1), some (vR 64 r2), some (vI x3), some (vI x4), some (vI x5), none, none, none, none] [] h Q) (w : W_X8_bind_80 D d Q K42 r0 r1 r2 x3 x4 x5 x6 q0 s1 h) : JW D (d + 1) mX8_bind 80 [some (vR 41 r0), some (vR 64 r1), some (vR 64 r2), some (vI x3), some (vI x4), some (vI x5), some (vI x6), none, none, none] [vI s1, vR 41 q0] h Q := by
  unfold W_X8_bind_80 at w
  obtain ⟨g_1, w⟩ := w
  refine jw_cV (st := []) (sa := [vR 41 q0, vI s1]) okX8_whole rfl rfl rfl rfl rfl rfl (jstp_virtual (sa := [vI s1]) (st := []) (k := 0) rfl rfl sX8_whole okX8_whole g_1 (one41.k g_1) rfl rfl) w (fun h_2 _ _ w => ?_)
  refine jw_iload (pc' := 85) rfl rfl ?_
  refine jw_if_le (tgt := 99) (pc' := 88) rfl rfl (fun c_5 => ?_) (fun c_5 => ?_)
  · replace w := w.1 c_5
    refine jw_gen (ls' := [some (vR 41 r0), some (vR 64 r1), some (vR 64 r2), some (vI x3), some (vI x4), some (vI x5), none, none, none, none]) (st' := []) (And.intro (Or.inl rfl) (And.intro (Or.inl rfl) (And.intro (Or.inl rfl) (And.intro (Or.inl rfl) (And.intro (Or.inl rfl) (And.intro (Or.inl rfl) (trivial))))))) (trivial) ?_
    exact w_X8_bind_99 hK42 w
  · replace w := w.2 c_5
    refine jw_aload_n (pc' := 89) rfl rfl ?_
    refine jw_dup (pc' := 90) rfl rfl ?_
    obtain ⟨g_6, w⟩ := w
    refine jw_getI (pc' := 93) (F := 238) rfl rfl rfl rfl g_6 ?_
    refine jw_iload (pc' := 95) rfl rfl ?_
    refine jw_iadd (pc' := 96) rfl ?_
    refine jw_putI' (pc' := 99) (F := 238) rfl rfl rfl (Or.inr rfl) (Or.inl rfl) rfl (rfl) (rfl) rfl g_6 (fun h_7 e_8 => ?_)
    replace w := w h_7 e_8
    refine jw_gen (ls' := [some (vR 41 r0), some (vR 64 r1), some (vR 64 r2), some (vI x3), some (vI x4), some (vI x5), none, none, none, none]) (st' := []) (And.intro (Or.inl rfl) (And.intro (Or.inl rfl) (And.intro (Or.inl rfl) (And.intro (Or.inl rfl) (And.intro (Or.inl rfl) (And.intro (Or.inl rfl) (trivial))))))) (trivial) ?_
    exact w_X8_bind_99 hK42 w
def W_X8_bind_79 (D : JD) (d : Nat) (Q : JO → JH → Prop) (K42 : Nat → Nat → Nat → Int32 → Int32 → Int32 → JH → Prop) (r0 : Nat) (r1 : Nat) (r2 : Nat) (x3 : Int32) (x4 : Int32) (x5 : Int32) (x6 : Int32) (q0 : Nat) (h : JH) : Prop :=
  W_X8_bind_80 D d Q K42 r0 r1 r2 x3 x4 x5 x6 q0 (0 : Int32) h
theorem w_X8_bind_79 {D : JD} {d : Nat} {Q : JO → JH → Prop} {K42 : Nat → Nat → Nat → Int32 → Int32 → Int32 → JH → Prop} {r0 : Nat} {r1 : Nat} {r2 : Nat} {x3 : Int32} {x4 : Int32} {x5 : Int32} {x6 : Int32} {q0 : Nat} {h : JH} (hK42 : ∀ (r0 : Nat) (r1 : Nat) (r2 : Nat) (x3 : Int32) (x4 : Int32) (x5 : Int32) (h : JH), K42 r0 r1 r2 x3 x4 x5 h → JW D (d + 1) mX8_bind 42 [some (vR 41 r0), some (vR 64 r1), some (vR 64 r2), some (vI x3), some (vI x4), some (vI x5), none, none, none, none] [] h Q) (w : W_X8_bind_79 D d Q K42 r0 r1 r2 x3 x4 x5 x6 q0 h) : JW D (d + 1) mX8_bind 79 [some (vR 41 r0), some (vR 64 r1), some (vR 64 r2), some (vI x3), some (vI x4), some (vI x5), some (vI x6), none, none, none] [vR 41 q0] h Q := by
  unfold W_X8_bind_79 at w
  refine jw_iconst (pc' := 80) (x := (0 : Int32)) rfl rfl ?_
  exact w_X8_bind_80 hK42 w
def W_X8_bind_42 (D : JD) (d : Nat) (Q : JO → JH → Prop) (K42 : Nat → Nat → Nat → Int32 → Int32 → Int32 → JH → Prop) (r0 : Nat) (r1 : Nat) (r2 : Nat) (x3 : Int32) (x4 : Int32) (x5 : Int32) (h : JH) : Prop :=
  (x3 ≤ x5 → r0 ≠ 0 ∧ (cX8_formats D d r0 h (pI D h (fun v_5 h_3 => cX8_ended D d r0 h_3 (pV D h_3 (fun h_6 => cX8_findPrepared D d r0 r2 h_6 (pI D h_6 (fun v_11 h_9 => (v_11 < 0 → W_X8_bind_132 D d Q r0 r1 x3 x4 v_11 r0 (0 : Int32) h_9) ∧ (¬ v_11 < 0 → W_X8_bind_132 D d Q r0 r1 x3 x4 v_11 r0 (1 : Int32) h_9)) (jth Q))) (jth Q))) (jth Q)))) ∧ (¬ x3 ≤ x5 → r0 ≠ 0 ∧ (cX8_read4 D d r0 h (pI D h (fun v_16 h_14 => (v_16 < (-1 : Int32) → W_X8_bind_79 D d Q K42 r0 r1 r2 x3 x4 x5 v_16 r0 h_14) ∧ (¬ v_16 < (-1 : Int32) → (((jfi h_14 239 r0) - (jfi h_14 238 r0)) < v_16 → W_X8_bind_79 D d Q K42 r0 r1 r2 x3 x4 x5 v_16 r0 h_14) ∧ (¬ ((jfi h_14 239 r0) - (jfi h_14 238 r0)) < v_16 → W_X8_bind_80 D d Q K42 r0 r1 r2 x3 x4 x5 v_16 r0 (1 : Int32) h_14))) (jth Q))))
theorem w_X8_bind_42 {D : JD} {d : Nat} {Q : JO → JH → Prop} {K42 : Nat → Nat → Nat → Int32 → Int32 → Int32 → JH → Prop} {r0 : Nat} {r1 : Nat} {r2 : Nat} {x3 : Int32} {x4 : Int32} {x5 : Int32} {h : JH} (hK42 : ∀ (r0 : Nat) (r1 : Nat) (r2 : Nat) (x3 : Int32) (x4 : Int32) (x5 : Int32) (h : JH), K42 r0 r1 r2 x3 x4 x5 h → JW D (d + 1) mX8_bind 42 [some (vR 41 r0), some (vR 64 r1), some (vR 64 r2), some (vI x3), some (vI x4), some (vI x5), none, none, none, none] [] h Q) (w : W_X8_bind_42 D d Q K42 r0 r1 r2 x3 x4 x5 h) : JW D (d + 1) mX8_bind 42 [some (vR 41 r0), some (vR 64 r1), some (vR 64 r2), some (vI x3), some (vI x4), some (vI x5), none, none, none, none] [] h Q := by
  unfold W_X8_bind_42 at w
  refine jw_iload (pc' := 44) rfl rfl ?_
  refine jw_iload_n (pc' := 45) rfl rfl ?_
  refine jw_icmp_ge (tgt := 105) (pc' := 48) rfl rfl (fun c_1 => ?_) (fun c_1 => ?_)
  · replace w := w.1 c_1
    refine jw_aload_n (pc' := 106) rfl rfl ?_
    obtain ⟨g_2, w⟩ := w
    refine jw_cI (st := []) (sa := [vR 41 r0]) okX8_formats rfl rfl rfl rfl rfl rfl (jstp_virtual (sa := []) (st := []) (k := 0) rfl rfl sX8_formats okX8_formats g_2 (one41.k g_2) rfl rfl) w (fun v_5 h_3 _ _ w => ?_)
    refine jw_pop (pc' := 110) rfl rfl ?_
    refine jw_aload_n (pc' := 111) rfl rfl ?_
    refine jw_cV (st := []) (sa := [vR 41 r0]) okX8_ended rfl rfl rfl rfl rfl rfl (jstp_virtual (sa := []) (st := []) (k := 0) rfl rfl sX8_ended okX8_ended g_2 (one41.k g_2) rfl rfl) w (fun h_6 _ _ w => ?_)
    refine jw_aload_n (pc' := 115) rfl rfl ?_
    refine jw_aload_n (pc' := 116) rfl rfl ?_
    refine jw_cI (st := []) (sa := [vR 41 r0, vR 64 r2]) okX8_findPrepared rfl rfl rfl rfl rfl rfl (jstp_virtual (sa := [vR 64 r2]) (st := []) (k := 0) rfl rfl sX8_findPrepared okX8_findPrepared g_2 (one41.k g_2) rfl rfl) w (fun v_11 h_9 _ _ w => ?_)
    refine jw_istore (pc' := 121) (ls' := [some (vR 41 r0), some (vR 64 r1), some (vR 64 r2), some (vI x3), some (vI x4), some (vI v_11), none, none, none, none]) rfl (by decide) rfl ?_
    refine jw_aload_n (pc' := 122) rfl rfl ?_
    refine jw_iload (pc' := 124) rfl rfl ?_
    refine jw_if_lt (tgt := 131) (pc' := 127) rfl rfl (fun c_12 => ?_) (fun c_12 => ?_)
    · replace w := w.1 c_12
      refine jw_iconst (pc' := 132) (x := (0 : Int32)) rfl rfl ?_
      refine jw_gen (ls' := [some (vR 41 r0), some (vR 64 r1), none, some (vI x3), some (vI x4), some (vI v_11), none, none, none, none]) (st' := [vI (0 : Int32), vR 41 r0]) (And.intro (Or.inl rfl) (And.intro (Or.inl rfl) (And.intro (Or.inl rfl) (And.intro (Or.inl rfl) (And.intro (Or.inl rfl) (trivial)))))) (And.intro (Or.inl rfl) (And.intro (Or.inl rfl) (trivial))) ?_
      exact w_X8_bind_132 w
    · replace w := w.2 c_12
      refine jw_iconst (pc' := 128) (x := (1 : Int32)) rfl rfl ?_
      refine jw_goto (pc' := 132) rfl rfl ?_
      refine jw_gen (ls' := [some (vR 41 r0), some (vR 64 r1), none, some (vI x3), some (vI x4), some (vI v_11), none, none, none, none]) (st' := [vI (1 : Int32), vR 41 r0]) (And.intro (Or.inl rfl) (And.intro (Or.inl rfl) (And.intro (Or.inl rfl) (And.intro (Or.inl rfl) (And.intro (Or.inl rfl) (trivial)))))) (And.intro (Or.inl rfl) (And.intro (Or.inl rfl) (trivial))) ?_
      exact w_X8_bind_132 w
  · replace w := w.2 c_1
    refine jw_aload_n (pc' := 49) rfl rfl ?_
    obtain ⟨g_13, w⟩ := w
    refine jw_cI (st := []) (sa := [vR 41 r0]) okX8_read4 rfl rfl rfl rfl rfl rfl (jstp_virtual (sa := []) (st := []) (k := 0) rfl rfl sX8_read4 okX8_read4 g_13 (one41.k g_13) rfl rfl) w (fun v_16 h_14 _ _ w => ?_)
    refine jw_istore (pc' := 54) (ls' := [some (vR 41 r0), some (vR 64 r1), some (vR 64 r2), some (vI x3), some (vI x4), some (vI x5), some (vI v_16), none, none, none]) rfl (by decide) rfl ?_
    refine jw_aload_n (pc' := 55) rfl rfl ?_
    refine jw_iload (pc' := 57) rfl rfl ?_
    refine jw_iconst (pc' := 58) (x := (-1 : Int32)) rfl rfl ?_
    refine jw_icmp_lt (tgt := 79) (pc' := 61) rfl rfl (fun c_17 => ?_) (fun c_17 => ?_)
    · replace w := w.1 c_17
      exact w_X8_bind_79 hK42 w
    · replace w := w.2 c_17
      refine jw_iload (pc' := 63) rfl rfl ?_
      refine jw_aload_n (pc' := 64) rfl rfl ?_
      refine jw_getI (pc' := 67) (F := 239) rfl rfl rfl rfl g_13 ?_
      refine jw_aload_n (pc' := 68) rfl rfl ?_
      refine jw_getI (pc' := 71) (F := 238) rfl rfl rfl rfl g_13 ?_
      refine jw_isub (pc' := 72) rfl ?_
      refine jw_icmp_gt (tgt := 79) (pc' := 75) rfl rfl (fun c_18 => ?_) (fun c_18 => ?_)
      · replace w := w.1 c_18
        exact w_X8_bind_79 hK42 w
      · replace w := w.2 c_18
        refine jw_iconst (pc' := 76) (x := (1 : Int32)) rfl rfl ?_
        refine jw_goto (pc' := 80) rfl rfl ?_
        exact w_X8_bind_80 hK42 w
def L_X8_bind_42 (D : JD) (d : Nat) (Q : JO → JH → Prop) : Nat → Nat → Nat → Nat → Int32 → Int32 → Int32 → JH → Prop
  | 0 => fun _ _ _ _ _ _ _ => False
  | n + 1 => fun r0 r1 r2 x3 x4 x5 h => W_X8_bind_42 D d Q (L_X8_bind_42 D d Q n) r0 r1 r2 x3 x4 x5 h
theorem l_X8_bind_42 {D : JD} {d : Nat} {Q : JO → JH → Prop} : ∀ (n : Nat) (r0 : Nat) (r1 : Nat) (r2 : Nat) (x3 : Int32) (x4 : Int32) (x5 : Int32) (h : JH), L_X8_bind_42 D d Q n r0 r1 r2 x3 x4 x5 h → JW D (d + 1) mX8_bind 42 [some (vR 41 r0), some (vR 64 r1), some (vR 64 r2), some (vI x3), some (vI x4), some (vI x5), none, none, none, none] [] h Q := by
  intro n
  induction n with
  | zero => intro _ _ _ _ _ _ _ w; exact w.elim
  | succ n ih => intro _ _ _ _ _ _ h w; exact w_X8_bind_42 ih w
def W_X8_bind_30 (D : JD) (d : Nat) (Q : JO → JH → Prop) (r0 : Nat) (r1 : Nat) (r2 : Nat) (x3 : Int32) (q0 : Nat) (s1 : Int32) (h : JH) : Prop :=
  q0 ≠ 0 ∧ (cX8_whole D d q0 s1 h (pV D h (fun h_2 => r0 ≠ 0 ∧ (∃ n, L_X8_bind_42 D d Q n r0 r1 r2 x3 (jfi h_2 238 r0) (0 : Int32) h_2)) (jth Q)))
theorem w_X8_bind_30 {D : JD} {d : Nat} {Q : JO → JH → Prop} {r0 : Nat} {r1 : Nat} {r2 : Nat} {x3 : Int32} {q0 : Nat} {s1 : Int32} {h : JH} (w : W_X8_bind_30 D d Q r0 r1 r2 x3 q0 s1 h) : JW D (d + 1) mX8_bind 30 [some (vR 41 r0), some (vR 64 r1), some (vR 64 r2), some (vI x3), none, none, none, none, none, none] [vI s1, vR 41 q0] h Q := by
  unfold W_X8_bind_30 at w
  obtain ⟨g_1, w⟩ := w
  refine jw_cV (st := []) (sa := [vR 41 q0, vI s1]) okX8_whole rfl rfl rfl rfl rfl rfl (jstp_virtual (sa := [vI s1]) (st := []) (k := 0) rfl rfl sX8_whole okX8_whole g_1 (one41.k g_1) rfl rfl) w (fun h_2 _ _ w => ?_)
  refine jw_aload_n (pc' := 34) rfl rfl ?_
  obtain ⟨g_5, w⟩ := w
  refine jw_getI (pc' := 37) (F := 238) rfl rfl rfl rfl g_5 ?_
  refine jw_istore (pc' := 39) (ls' := [some (vR 41 r0), some (vR 64 r1), some (vR 64 r2), some (vI x3), some (vI (jfi h_2 238 r0)), none, none, none, none, none]) rfl (by decide) rfl ?_
  refine jw_iconst (pc' := 40) (x := (0 : Int32)) rfl rfl ?_
  refine jw_istore (pc' := 42) (ls' := [some (vR 41 r0), some (vR 64 r1), some (vR 64 r2), some (vI x3), some (vI (jfi h_2 238 r0)), some (vI (0 : Int32)), none, none, none, none]) rfl (by decide) rfl ?_
  obtain ⟨n, w⟩ := w
  exact l_X8_bind_42 n _ _ _ _ _ _ _ w
def W_X8_bind_0 (D : JD) (d : Nat) (Q : JO → JH → Prop) (r0 : Nat) (h : JH) : Prop :=
  r0 ≠ 0 ∧ (cX8_stringOf D d r0 h (pR D h 64 (fun v_4 h_2 => cX8_stringOf D d r0 h_2 (pR D h_2 64 (fun v_7 h_5 => cX8_formats D d r0 h_5 (pI D h_5 (fun v_10 h_8 => cX8_read2 D d r0 h_8 (pI D h_8 (fun v_13 h_11 => (v_13 < 0 → W_X8_bind_30 D d Q r0 v_4 v_7 v_13 r0 (0 : Int32) h_11) ∧ (¬ v_13 < 0 → W_X8_bind_30 D d Q r0 v_4 v_7 v_13 r0 (1 : Int32) h_11)) (jth Q))) (jth Q))) (jth Q))) (jth Q)))
theorem w_X8_bind_0 {D : JD} {d : Nat} {Q : JO → JH → Prop} {r0 : Nat} {h : JH} (w : W_X8_bind_0 D d Q r0 h) : JW D (d + 1) mX8_bind 0 [some (vR 41 r0), none, none, none, none, none, none, none, none, none] [] h Q := by
  unfold W_X8_bind_0 at w
  refine jw_aload_n (pc' := 1) rfl rfl ?_
  obtain ⟨g_1, w⟩ := w
  refine jw_cR (st := []) (sa := [vR 41 r0]) okX8_stringOf rfl rfl rfl rfl rfl rfl (jstp_virtual (sa := []) (st := []) (k := 0) rfl rfl sX8_stringOf okX8_stringOf g_1 (one41.k g_1) rfl rfl) w (fun v_4 h_2 _ _ _ w => ?_)
  refine jw_astore_n (pc' := 5) (ls' := [some (vR 41 r0), some (vR 64 v_4), none, none, none, none, none, none, none, none]) rfl (by decide) rfl ?_
  refine jw_aload_n (pc' := 6) rfl rfl ?_
  refine jw_cR (st := []) (sa := [vR 41 r0]) okX8_stringOf rfl rfl rfl rfl rfl rfl (jstp_virtual (sa := []) (st := []) (k := 0) rfl rfl sX8_stringOf okX8_stringOf g_1 (one41.k g_1) rfl rfl) w (fun v_7 h_5 _ _ _ w => ?_)
  refine jw_astore_n (pc' := 10) (ls' := [some (vR 41 r0), some (vR 64 v_4), some (vR 64 v_7), none, none, none, none, none, none, none]) rfl (by decide) rfl ?_
  refine jw_aload_n (pc' := 11) rfl rfl ?_
  refine jw_cI (st := []) (sa := [vR 41 r0]) okX8_formats rfl rfl rfl rfl rfl rfl (jstp_virtual (sa := []) (st := []) (k := 0) rfl rfl sX8_formats okX8_formats g_1 (one41.k g_1) rfl rfl) w (fun v_10 h_8 _ _ w => ?_)
  refine jw_pop (pc' := 15) rfl rfl ?_
  refine jw_aload_n (pc' := 16) rfl rfl ?_
  refine jw_cI (st := []) (sa := [vR 41 r0]) okX8_read2 rfl rfl rfl rfl rfl rfl (jstp_virtual (sa := []) (st := []) (k := 0) rfl rfl sX8_read2 okX8_read2 g_1 (one41.k g_1) rfl rfl) w (fun v_13 h_11 _ _ w => ?_)
  refine jw_istore_n (pc' := 20) (ls' := [some (vR 41 r0), some (vR 64 v_4), some (vR 64 v_7), some (vI v_13), none, none, none, none, none, none]) rfl (by decide) rfl ?_
  refine jw_aload_n (pc' := 21) rfl rfl ?_
  refine jw_iload_n (pc' := 22) rfl rfl ?_
  refine jw_if_lt (tgt := 29) (pc' := 25) rfl rfl (fun c_14 => ?_) (fun c_14 => ?_)
  · replace w := w.1 c_14
    refine jw_iconst (pc' := 30) (x := (0 : Int32)) rfl rfl ?_
    exact w_X8_bind_30 w
  · replace w := w.2 c_14
    refine jw_iconst (pc' := 26) (x := (1 : Int32)) rfl rfl ?_
    refine jw_goto (pc' := 30) rfl rfl ?_
    exact w_X8_bind_30 w
def T_X8_bind (D : JD) (d : Nat) (Q : JO → JH → Prop) (r0 : Nat) (h : JH) : Prop := W_X8_bind_0 D d Q r0 h
theorem t_X8_bind {D : JD} {d : Nat} {Q : JO → JH → Prop} {r0 : Nat} {h : JH} (w : T_X8_bind D d Q r0 h) : cX8_bind D (d + 1) r0 h Q := by
  unfold T_X8_bind at w
  unfold cX8_bind
  exact w_X8_bind_0 w
def W_X8_formats_38 (D : JD) (d : Nat) (Q : JO → JH → Prop) (K20 : Nat → Int32 → Int32 → JH → Prop) (r0 : Nat) (x1 : Int32) (x2 : Int32) (q0 : Nat) (s1 : Int32) (h : JH) : Prop :=
  q0 ≠ 0 ∧ (cX8_whole D d q0 s1 h (pV D h (fun h_2 => K20 r0 x1 (x2 + (1 : Int32)) h_2) (jth Q)))
theorem w_X8_formats_38 {D : JD} {d : Nat} {Q : JO → JH → Prop} {K20 : Nat → Int32 → Int32 → JH → Prop} {r0 : Nat} {x1 : Int32} {x2 : Int32} {q0 : Nat} {s1 : Int32} {h : JH} (hK20 : ∀ (r0 : Nat) (x1 : Int32) (x2 : Int32) (h : JH), K20 r0 x1 x2 h → JW D (d + 1) mX8_formats 20 [some (vR 41 r0), some (vI x1), some (vI x2)] [] h Q) (w : W_X8_formats_38 D d Q K20 r0 x1 x2 q0 s1 h) : JW D (d + 1) mX8_formats 38 [some (vR 41 r0), some (vI x1), some (vI x2)] [vI s1, vR 41 q0] h Q := by
  unfold W_X8_formats_38 at w
  obtain ⟨g_1, w⟩ := w
  refine jw_cV (st := []) (sa := [vR 41 q0, vI s1]) okX8_whole rfl rfl rfl rfl rfl rfl (jstp_virtual (sa := [vI s1]) (st := []) (k := 0) rfl rfl sX8_whole okX8_whole g_1 (one41.k g_1) rfl rfl) w (fun h_2 _ _ w => ?_)
  refine jw_iinc (pc' := 44) (y := x2 + (1 : Int32)) (ls' := [some (vR 41 r0), some (vI x1), some (vI (x2 + (1 : Int32)))]) rfl (by decide) rfl rfl rfl ?_
  refine jw_goto (pc' := 20) rfl rfl ?_
  exact hK20 _ _ _ _ w
def W_X8_formats_20 (D : JD) (d : Nat) (Q : JO → JH → Prop) (K20 : Nat → Int32 → Int32 → JH → Prop) (r0 : Nat) (x1 : Int32) (x2 : Int32) (h : JH) : Prop :=
  (x1 ≤ x2 → Q (.inl (some (vI x1))) h) ∧ (¬ x1 ≤ x2 → r0 ≠ 0 ∧ (cX8_read2 D d r0 h (pI D h (fun v_5 h_3 => (¬ v_5 = 0 → W_X8_formats_38 D d Q K20 r0 x1 x2 r0 (0 : Int32) h_3) ∧ (v_5 = 0 → W_X8_formats_38 D d Q K20 r0 x1 x2 r0 (1 : Int32) h_3)) (jth Q))))
theorem w_X8_formats_20 {D : JD} {d : Nat} {Q : JO → JH → Prop} {K20 : Nat → Int32 → Int32 → JH → Prop} {r0 : Nat} {x1 : Int32} {x2 : Int32} {h : JH} (hK20 : ∀ (r0 : Nat) (x1 : Int32) (x2 : Int32) (h : JH), K20 r0 x1 x2 h → JW D (d + 1) mX8_formats 20 [some (vR 41 r0), some (vI x1), some (vI x2)] [] h Q) (w : W_X8_formats_20 D d Q K20 r0 x1 x2 h) : JW D (d + 1) mX8_formats 20 [some (vR 41 r0), some (vI x1), some (vI x2)] [] h Q := by
  unfold W_X8_formats_20 at w
  refine jw_iload_n (pc' := 21) rfl rfl ?_
  refine jw_iload_n (pc' := 22) rfl rfl ?_
  refine jw_icmp_ge (tgt := 47) (pc' := 25) rfl rfl (fun c_1 => ?_) (fun c_1 => ?_)
  · replace w := w.1 c_1
    refine jw_iload_n (pc' := 48) rfl rfl ?_
    exact jw_ireturn rfl rfl (rfl) w
  · replace w := w.2 c_1
    refine jw_aload_n (pc' := 26) rfl rfl ?_
    refine jw_aload_n (pc' := 27) rfl rfl ?_
    obtain ⟨g_2, w⟩ := w
    refine jw_cI (st := [vR 41 r0]) (sa := [vR 41 r0]) okX8_read2 rfl rfl rfl rfl rfl rfl (jstp_virtual (sa := []) (st := [vR 41 r0]) (k := 0) rfl rfl sX8_read2 okX8_read2 g_2 (one41.k g_2) rfl rfl) w (fun v_5 h_3 _ _ w => ?_)
    refine jw_if_ne (tgt := 37) (pc' := 33) rfl rfl (fun c_6 => ?_) (fun c_6 => ?_)
    · replace w := w.1 c_6
      refine jw_iconst (pc' := 38) (x := (0 : Int32)) rfl rfl ?_
      exact w_X8_formats_38 hK20 w
    · replace w := w.2 c_6
      refine jw_iconst (pc' := 34) (x := (1 : Int32)) rfl rfl ?_
      refine jw_goto (pc' := 38) rfl rfl ?_
      exact w_X8_formats_38 hK20 w
def L_X8_formats_20 (D : JD) (d : Nat) (Q : JO → JH → Prop) : Nat → Nat → Int32 → Int32 → JH → Prop
  | 0 => fun _ _ _ _ => False
  | n + 1 => fun r0 x1 x2 h => W_X8_formats_20 D d Q (L_X8_formats_20 D d Q n) r0 x1 x2 h
theorem l_X8_formats_20 {D : JD} {d : Nat} {Q : JO → JH → Prop} : ∀ (n : Nat) (r0 : Nat) (x1 : Int32) (x2 : Int32) (h : JH), L_X8_formats_20 D d Q n r0 x1 x2 h → JW D (d + 1) mX8_formats 20 [some (vR 41 r0), some (vI x1), some (vI x2)] [] h Q := by
  intro n
  induction n with
  | zero => intro _ _ _ _ w; exact w.elim
  | succ n ih => intro _ _ _ h w; exact w_X8_formats_20 ih w
def W_X8_formats_15 (D : JD) (d : Nat) (Q : JO → JH → Prop) (r0 : Nat) (x1 : Int32) (q0 : Nat) (s1 : Int32) (h : JH) : Prop :=
  q0 ≠ 0 ∧ (cX8_whole D d q0 s1 h (pV D h (fun h_2 => ∃ n, L_X8_formats_20 D d Q n r0 x1 (0 : Int32) h_2) (jth Q)))
theorem w_X8_formats_15 {D : JD} {d : Nat} {Q : JO → JH → Prop} {r0 : Nat} {x1 : Int32} {q0 : Nat} {s1 : Int32} {h : JH} (w : W_X8_formats_15 D d Q r0 x1 q0 s1 h) : JW D (d + 1) mX8_formats 15 [some (vR 41 r0), some (vI x1), none] [vI s1, vR 41 q0] h Q := by
  unfold W_X8_formats_15 at w
  obtain ⟨g_1, w⟩ := w
  refine jw_cV (st := []) (sa := [vR 41 q0, vI s1]) okX8_whole rfl rfl rfl rfl rfl rfl (jstp_virtual (sa := [vI s1]) (st := []) (k := 0) rfl rfl sX8_whole okX8_whole g_1 (one41.k g_1) rfl rfl) w (fun h_2 _ _ w => ?_)
  refine jw_iconst (pc' := 19) (x := (0 : Int32)) rfl rfl ?_
  refine jw_istore_n (pc' := 20) (ls' := [some (vR 41 r0), some (vI x1), some (vI (0 : Int32))]) rfl (by decide) rfl ?_
  obtain ⟨n, w⟩ := w
  exact l_X8_formats_20 n _ _ _ _ w
def W_X8_formats_0 (D : JD) (d : Nat) (Q : JO → JH → Prop) (r0 : Nat) (h : JH) : Prop :=
  r0 ≠ 0 ∧ (cX8_read2 D d r0 h (pI D h (fun v_4 h_2 => (v_4 < 0 → W_X8_formats_15 D d Q r0 v_4 r0 (0 : Int32) h_2) ∧ (¬ v_4 < 0 → W_X8_formats_15 D d Q r0 v_4 r0 (1 : Int32) h_2)) (jth Q)))
theorem w_X8_formats_0 {D : JD} {d : Nat} {Q : JO → JH → Prop} {r0 : Nat} {h : JH} (w : W_X8_formats_0 D d Q r0 h) : JW D (d + 1) mX8_formats 0 [some (vR 41 r0), none, none] [] h Q := by
  unfold W_X8_formats_0 at w
  refine jw_aload_n (pc' := 1) rfl rfl ?_
  obtain ⟨g_1, w⟩ := w
  refine jw_cI (st := []) (sa := [vR 41 r0]) okX8_read2 rfl rfl rfl rfl rfl rfl (jstp_virtual (sa := []) (st := []) (k := 0) rfl rfl sX8_read2 okX8_read2 g_1 (one41.k g_1) rfl rfl) w (fun v_4 h_2 _ _ w => ?_)
  refine jw_istore_n (pc' := 5) (ls' := [some (vR 41 r0), some (vI v_4), none]) rfl (by decide) rfl ?_
  refine jw_aload_n (pc' := 6) rfl rfl ?_
  refine jw_iload_n (pc' := 7) rfl rfl ?_
  refine jw_if_lt (tgt := 14) (pc' := 10) rfl rfl (fun c_5 => ?_) (fun c_5 => ?_)
  · replace w := w.1 c_5
    refine jw_iconst (pc' := 15) (x := (0 : Int32)) rfl rfl ?_
    exact w_X8_formats_15 w
  · replace w := w.2 c_5
    refine jw_iconst (pc' := 11) (x := (1 : Int32)) rfl rfl ?_
    refine jw_goto (pc' := 15) rfl rfl ?_
    exact w_X8_formats_15 w
def T_X8_formats (D : JD) (d : Nat) (Q : JO → JH → Prop) (r0 : Nat) (h : JH) : Prop := W_X8_formats_0 D d Q r0 h
theorem t_X8_formats {D : JD} {d : Nat} {Q : JO → JH → Prop} {r0 : Nat} {h : JH} (w : T_X8_formats D d Q r0 h) : cX8_formats D (d + 1) r0 h Q := by
  unfold T_X8_formats at w
  unfold cX8_formats
  exact w_X8_formats_0 w
def W_X8_findPortal_2 (D : JD) (d : Nat) (Q : JO → JH → Prop) (K2 : Nat → Nat → Int32 → JH → Prop) (r0 : Nat) (r1 : Nat) (x2 : Int32) (h : JH) : Prop :=
  r0 ≠ 0 ∧ (((jfi h 234 r0) ≤ x2 → Q (.inl (some (vI (-1 : Int32)))) h) ∧ (¬ (jfi h 234 r0) ≤ x2 → (jfr h 233 r0) ≠ 0 ∧ jin x2 (jln h (jfr h 233 r0)) ∧ ((jar h (jfr h 233 r0) (ixn x2)) ≠ 0 ∧ ((jfr h 319 (jar h (jfr h 233 r0) (ixn x2))) ≠ 0 ∧ (cJ5_equals D d (jfr h 319 (jar h (jfr h 233 r0) (ixn x2))) r1 h (pI D h (fun v_9 h_7 => (v_9 = 0 → K2 r0 r1 (x2 + (1 : Int32)) h_7) ∧ (¬ v_9 = 0 → Q (.inl (some (vI x2))) h_7)) (jth Q)))))))
theorem w_X8_findPortal_2 {D : JD} {d : Nat} {Q : JO → JH → Prop} {K2 : Nat → Nat → Int32 → JH → Prop} {r0 : Nat} {r1 : Nat} {x2 : Int32} {h : JH} (hK2 : ∀ (r0 : Nat) (r1 : Nat) (x2 : Int32) (h : JH), K2 r0 r1 x2 h → JW D (d + 1) mX8_findPortal 2 [some (vR 41 r0), some (vR 64 r1), some (vI x2)] [] h Q) (w : W_X8_findPortal_2 D d Q K2 r0 r1 x2 h) : JW D (d + 1) mX8_findPortal 2 [some (vR 41 r0), some (vR 64 r1), some (vI x2)] [] h Q := by
  unfold W_X8_findPortal_2 at w
  refine jw_iload_n (pc' := 3) rfl rfl ?_
  refine jw_aload_n (pc' := 4) rfl rfl ?_
  obtain ⟨g_1, w⟩ := w
  refine jw_getI (pc' := 7) (F := 234) rfl rfl rfl rfl g_1 ?_
  refine jw_icmp_ge (tgt := 34) (pc' := 10) rfl rfl (fun c_2 => ?_) (fun c_2 => ?_)
  · replace w := w.1 c_2
    refine jw_iconst (pc' := 35) (x := (-1 : Int32)) rfl rfl ?_
    exact jw_ireturn rfl rfl (rfl) w
  · replace w := w.2 c_2
    refine jw_aload_n (pc' := 11) rfl rfl ?_
    refine jw_getR (pc' := 14) (F := 233) (t' := 182) rfl rfl rfl rfl rfl g_1 ?_
    refine jw_iload_n (pc' := 15) rfl rfl ?_
    obtain ⟨g_3, w⟩ := w
    obtain ⟨g_4, w⟩ := w
    refine jw_aald (pc' := 16) (t' := 50) rfl rfl rfl rfl g_3 g_4.ix g_4.2 ?_
    obtain ⟨g_5, w⟩ := w
    refine jw_getR (pc' := 19) (F := 319) (t' := 64) rfl rfl rfl rfl rfl g_5 ?_
    refine jw_aload_n (pc' := 20) rfl rfl ?_
    obtain ⟨g_6, w⟩ := w
    refine jw_cI (st := []) (sa := [vR 64 (jfr h 319 (jar h (jfr h 233 r0) (ixn x2))), vR 64 r1]) okJ5_equals rfl rfl rfl rfl rfl rfl (jstp_virtual (sa := [vR 64 r1]) (st := []) (k := 0) rfl rfl sJ5_equals okJ5_equals g_6 (one64.k g_6) rfl rfl) w (fun v_9 h_7 _ _ w => ?_)
    refine jw_if_eq (tgt := 28) (pc' := 26) rfl rfl (fun c_10 => ?_) (fun c_10 => ?_)
    · replace w := w.1 c_10
      refine jw_iinc (pc' := 31) (y := x2 + (1 : Int32)) (ls' := [some (vR 41 r0), some (vR 64 r1), some (vI (x2 + (1 : Int32)))]) rfl (by decide) rfl rfl rfl ?_
      refine jw_goto (pc' := 2) rfl rfl ?_
      exact hK2 _ _ _ _ w
    · replace w := w.2 c_10
      refine jw_iload_n (pc' := 27) rfl rfl ?_
      exact jw_ireturn rfl rfl (rfl) w
def L_X8_findPortal_2 (D : JD) (d : Nat) (Q : JO → JH → Prop) : Nat → Nat → Nat → Int32 → JH → Prop
  | 0 => fun _ _ _ _ => False
  | n + 1 => fun r0 r1 x2 h => W_X8_findPortal_2 D d Q (L_X8_findPortal_2 D d Q n) r0 r1 x2 h
theorem l_X8_findPortal_2 {D : JD} {d : Nat} {Q : JO → JH → Prop} : ∀ (n : Nat) (r0 : Nat) (r1 : Nat) (x2 : Int32) (h : JH), L_X8_findPortal_2 D d Q n r0 r1 x2 h → JW D (d + 1) mX8_findPortal 2 [some (vR 41 r0), some (vR 64 r1), some (vI x2)] [] h Q := by
  intro n
  induction n with
  | zero => intro _ _ _ _ w; exact w.elim
  | succ n ih => intro _ _ _ h w; exact w_X8_findPortal_2 ih w
def W_X8_findPortal_0 (D : JD) (d : Nat) (Q : JO → JH → Prop) (r0 : Nat) (r1 : Nat) (h : JH) : Prop :=
  ∃ n, L_X8_findPortal_2 D d Q n r0 r1 (0 : Int32) h
theorem w_X8_findPortal_0 {D : JD} {d : Nat} {Q : JO → JH → Prop} {r0 : Nat} {r1 : Nat} {h : JH} (w : W_X8_findPortal_0 D d Q r0 r1 h) : JW D (d + 1) mX8_findPortal 0 [some (vR 41 r0), some (vR 64 r1), none] [] h Q := by
  unfold W_X8_findPortal_0 at w
  refine jw_iconst (pc' := 1) (x := (0 : Int32)) rfl rfl ?_
  refine jw_istore_n (pc' := 2) (ls' := [some (vR 41 r0), some (vR 64 r1), some (vI (0 : Int32))]) rfl (by decide) rfl ?_
  obtain ⟨n, w⟩ := w
  exact l_X8_findPortal_2 n _ _ _ _ w
def T_X8_findPortal (D : JD) (d : Nat) (Q : JO → JH → Prop) (r0 : Nat) (r1 : Nat) (h : JH) : Prop := W_X8_findPortal_0 D d Q r0 r1 h
theorem t_X8_findPortal {D : JD} {d : Nat} {Q : JO → JH → Prop} {r0 : Nat} {r1 : Nat} {h : JH} (w : T_X8_findPortal D d Q r0 r1 h) : cX8_findPortal D (d + 1) r0 r1 h Q := by
  unfold T_X8_findPortal at w
  unfold cX8_findPortal
  exact w_X8_findPortal_0 w
def W_X8_parameter_388 (D : JD) (d : Nat) (Q : JO → JH → Prop) (h : JH) : Prop :=
  Q (.inl none) h
theorem w_X8_parameter_388 {D : JD} {d : Nat} {Q : JO → JH → Prop} {h : JH} (w : W_X8_parameter_388 D d Q h) : JW D (d + 1) mX8_parameter 388 [none, none, none, none, none, none, none, none] [] h Q := by
  unfold W_X8_parameter_388 at w
  exact jw_return rfl rfl w
def W_X8_parameter_362 (D : JD) (d : Nat) (Q : JO → JH → Prop) (K293 : Nat → Nat → Int32 → Int32 → Int32 → Int32 → JH → Prop) (r0 : Nat) (r2 : Nat) (x3 : Int32) (x4 : Int32) (x5 : Int32) (x7 : Int32) (q0 : Nat) (s1 : Int32) (h : JH) : Prop :=
  q0 ≠ 0 ∧ (cX8_must D d q0 s1 (jcs D 339) h (pV D h (fun h_2 => K293 r0 r2 x3 x4 x5 (x7 + (1 : Int32)) h_2) (jth Q)))
theorem w_X8_parameter_362 {D : JD} {d : Nat} {Q : JO → JH → Prop} {K293 : Nat → Nat → Int32 → Int32 → Int32 → Int32 → JH → Prop} {r0 : Nat} {r2 : Nat} {x3 : Int32} {x4 : Int32} {x5 : Int32} {x7 : Int32} {q0 : Nat} {s1 : Int32} {h : JH} (hK293 : ∀ (r0 : Nat) (r2 : Nat) (x3 : Int32) (x4 : Int32) (x5 : Int32) (x7 : Int32) (h : JH), K293 r0 r2 x3 x4 x5 x7 h → JW D (d + 1) mX8_parameter 293 [some (vR 41 r0), none, some (vR 46 r2), some (vI x3), some (vI x4), some (vI x5), none, some (vI x7)] [] h Q) (w : W_X8_parameter_362 D d Q K293 r0 r2 x3 x4 x5 x7 q0 s1 h) : JW D (d + 1) mX8_parameter 362 [some (vR 41 r0), none, some (vR 46 r2), some (vI x3), some (vI x4), some (vI x5), none, some (vI x7)] [vI s1, vR 41 q0] h Q := by
  unfold W_X8_parameter_362 at w
  refine jw_ldcwS (pc' := 365) rfl rfl rfl rfl ?_
  obtain ⟨g_1, w⟩ := w
  refine jw_cV (st := []) (sa := [vR 41 q0, vI s1, vR 51 (jcs D 339)]) okX8_must rfl rfl rfl rfl rfl rfl (jstp_virtual (sa := [vI s1, vR 51 (jcs D 339)]) (st := []) (k := 0) rfl rfl sX8_must okX8_must g_1 (one41.k g_1) rfl rfl) w (fun h_2 _ _ w => ?_)
  refine jw_iinc (pc' := 371) (y := x7 + (1 : Int32)) (ls' := [some (vR 41 r0), none, some (vR 46 r2), some (vI x3), some (vI x4), some (vI x5), none, some (vI (x7 + (1 : Int32)))]) rfl (by decide) rfl rfl rfl ?_
  refine jw_goto (pc' := 293) rfl rfl ?_
  exact hK293 _ _ _ _ _ _ _ w
def W_X8_parameter_293 (D : JD) (d : Nat) (Q : JO → JH → Prop) (K293 : Nat → Nat → Int32 → Int32 → Int32 → Int32 → JH → Prop) (r0 : Nat) (r2 : Nat) (x3 : Int32) (x4 : Int32) (x5 : Int32) (x7 : Int32) (h : JH) : Prop :=
  (x3 ≤ x7 → (x5 = 0 → W_X8_parameter_388 D d Q h) ∧ (¬ x5 = 0 → r2 ≠ 0 ∧ (∀ h_4 : JH, h_4 = wfl h 267 r2 (-(jfl h 267 r2)) → (W_X8_parameter_388 D d Q h_4)))) ∧ (¬ x3 ≤ x7 → r0 ≠ 0 ∧ (cX8_b D d r0 (x4 + x7) h (pI D h (fun v_9 h_7 => cX8_digit D d v_9 h_7 (pI D h_7 (fun v_12 h_10 => cX8_must D d r0 v_12 (jcs D 339) h_10 (pV D h_10 (fun h_13 => r2 ≠ 0 ∧ (cX8_b D d r0 (x4 + x7) h_13 (pI D h_13 (fun v_19 h_17 => ∀ h_20 : JH, h_20 = wfl h_17 267 r2 ((((10 : Int64) * (jfl h_13 267 r2)) + (Int32.toInt64 v_19)) - (48 : Int64)) → ((0 < (lg_cmp (jfl h_20 267 r2) (9007199254740991 : Int64)) → W_X8_parameter_362 D d Q K293 r0 r2 x3 x4 x5 x7 r0 (0 : Int32) h_20) ∧ (¬ 0 < (lg_cmp (jfl h_20 267 r2) (9007199254740991 : Int64)) → W_X8_parameter_362 D d Q K293 r0 r2 x3 x4 x5 x7 r0 (1 : Int32) h_20))) (jth Q)))) (jth Q))) (jth Q))) (jth Q))))
theorem w_X8_parameter_293 {D : JD} {d : Nat} {Q : JO → JH → Prop} {K293 : Nat → Nat → Int32 → Int32 → Int32 → Int32 → JH → Prop} {r0 : Nat} {r2 : Nat} {x3 : Int32} {x4 : Int32} {x5 : Int32} {x7 : Int32} {h : JH} (hK293 : ∀ (r0 : Nat) (r2 : Nat) (x3 : Int32) (x4 : Int32) (x5 : Int32) (x7 : Int32) (h : JH), K293 r0 r2 x3 x4 x5 x7 h → JW D (d + 1) mX8_parameter 293 [some (vR 41 r0), none, some (vR 46 r2), some (vI x3), some (vI x4), some (vI x5), none, some (vI x7)] [] h Q) (w : W_X8_parameter_293 D d Q K293 r0 r2 x3 x4 x5 x7 h) : JW D (d + 1) mX8_parameter 293 [some (vR 41 r0), none, some (vR 46 r2), some (vI x3), some (vI x4), some (vI x5), none, some (vI x7)] [] h Q := by
  unfold W_X8_parameter_293 at w
  refine jw_iload (pc' := 295) rfl rfl ?_
  refine jw_iload_n (pc' := 296) rfl rfl ?_
  refine jw_icmp_ge (tgt := 374) (pc' := 299) rfl rfl (fun c_1 => ?_) (fun c_1 => ?_)
  · replace w := w.1 c_1
    refine jw_iload (pc' := 376) rfl rfl ?_
    refine jw_if_eq (tgt := 388) (pc' := 379) rfl rfl (fun c_2 => ?_) (fun c_2 => ?_)
    · replace w := w.1 c_2
      refine jw_gen (ls' := [none, none, none, none, none, none, none, none]) (st' := []) (trivial) (trivial) ?_
      exact w_X8_parameter_388 w
    · replace w := w.2 c_2
      refine jw_aload_n (pc' := 380) rfl rfl ?_
      refine jw_aload_n (pc' := 381) rfl rfl ?_
      obtain ⟨g_3, w⟩ := w
      refine jw_getL (pc' := 384) (F := 267) rfl rfl rfl rfl g_3 ?_
      refine jw_lneg (pc' := 385) rfl ?_
      refine jw_putL' (pc' := 388) (F := 267) rfl rfl rfl (Or.inr rfl) (Or.inl rfl) rfl rfl rfl g_3 (fun h_4 e_5 => ?_)
      replace w := w h_4 e_5
      refine jw_gen (ls' := [none, none, none, none, none, none, none, none]) (st' := []) (trivial) (trivial) ?_
      exact w_X8_parameter_388 w
  · replace w := w.2 c_1
    refine jw_aload_n (pc' := 300) rfl rfl ?_
    refine jw_aload_n (pc' := 301) rfl rfl ?_
    refine jw_iload (pc' := 303) rfl rfl ?_
    refine jw_iload (pc' := 305) rfl rfl ?_
    refine jw_iadd (pc' := 306) rfl ?_
    obtain ⟨g_6, w⟩ := w
    refine jw_cI (st := [vR 41 r0]) (sa := [vR 41 r0, vI (x4 + x7)]) okX8_b rfl rfl rfl rfl rfl rfl (jstp_virtual (sa := [vI (x4 + x7)]) (st := [vR 41 r0]) (k := 0) rfl rfl sX8_b okX8_b g_6 (one41.k g_6) rfl rfl) w (fun v_9 h_7 _ _ w => ?_)
    refine jw_cI (st := [vR 41 r0]) (sa := [vI v_9]) okX8_digit rfl rfl rfl rfl rfl rfl (jstp_static (sa := [vI v_9]) (st := [vR 41 r0]) rfl rfl sX8_digit okX8_digit rfl rfl) w (fun v_12 h_10 _ _ w => ?_)
    refine jw_ldcwS (pc' := 315) rfl rfl rfl rfl ?_
    refine jw_cV (st := []) (sa := [vR 41 r0, vI v_12, vR 51 (jcs D 339)]) okX8_must rfl rfl rfl rfl rfl rfl (jstp_virtual (sa := [vI v_12, vR 51 (jcs D 339)]) (st := []) (k := 0) rfl rfl sX8_must okX8_must g_6 (one41.k g_6) rfl rfl) w (fun h_13 _ _ w => ?_)
    refine jw_aload_n (pc' := 319) rfl rfl ?_
    refine jw_ldc2 (pc' := 322) (v := (10 : Int64)) rfl rfl ?_
    refine jw_aload_n (pc' := 323) rfl rfl ?_
    obtain ⟨g_16, w⟩ := w
    refine jw_getL (pc' := 326) (F := 267) rfl rfl rfl rfl g_16 ?_
    refine jw_lmul (pc' := 327) rfl ?_
    refine jw_aload_n (pc' := 328) rfl rfl ?_
    refine jw_iload (pc' := 330) rfl rfl ?_
    refine jw_iload (pc' := 332) rfl rfl ?_
    refine jw_iadd (pc' := 333) rfl ?_
    refine jw_cI (st := [vL ((10 : Int64) * (jfl h_13 267 r2)), vR 46 r2]) (sa := [vR 41 r0, vI (x4 + x7)]) okX8_b rfl rfl rfl rfl rfl rfl (jstp_virtual (sa := [vI (x4 + x7)]) (st := [vL ((10 : Int64) * (jfl h_13 267 r2)), vR 46 r2]) (k := 0) rfl rfl sX8_b okX8_b g_6 (one41.k g_6) rfl rfl) w (fun v_19 h_17 _ _ w => ?_)
    refine jw_i2l (pc' := 337) rfl ?_
    refine jw_ladd (pc' := 338) rfl ?_
    refine jw_ldc2 (pc' := 341) (v := (48 : Int64)) rfl rfl ?_
    refine jw_lsub (pc' := 342) rfl ?_
    refine jw_putL' (pc' := 345) (F := 267) rfl rfl rfl (Or.inr rfl) (Or.inl rfl) rfl rfl rfl g_16 (fun h_20 e_21 => ?_)
    replace w := w h_20 e_21
    refine jw_aload_n (pc' := 346) rfl rfl ?_
    refine jw_aload_n (pc' := 347) rfl rfl ?_
    refine jw_getL (pc' := 350) (F := 267) rfl rfl rfl rfl g_16 ?_
    refine jw_ldc2 (pc' := 353) (v := (9007199254740991 : Int64)) rfl rfl ?_
    refine jw_lcmp (pc' := 354) rfl ?_
    refine jw_if_gt (tgt := 361) (pc' := 357) rfl rfl (fun c_22 => ?_) (fun c_22 => ?_)
    · replace w := w.1 c_22
      refine jw_iconst (pc' := 362) (x := (0 : Int32)) rfl rfl ?_
      exact w_X8_parameter_362 hK293 w
    · replace w := w.2 c_22
      refine jw_iconst (pc' := 358) (x := (1 : Int32)) rfl rfl ?_
      refine jw_goto (pc' := 362) rfl rfl ?_
      exact w_X8_parameter_362 hK293 w
def L_X8_parameter_293 (D : JD) (d : Nat) (Q : JO → JH → Prop) : Nat → Nat → Nat → Int32 → Int32 → Int32 → Int32 → JH → Prop
  | 0 => fun _ _ _ _ _ _ _ => False
  | n + 1 => fun r0 r2 x3 x4 x5 x7 h => W_X8_parameter_293 D d Q (L_X8_parameter_293 D d Q n) r0 r2 x3 x4 x5 x7 h
theorem l_X8_parameter_293 {D : JD} {d : Nat} {Q : JO → JH → Prop} : ∀ (n : Nat) (r0 : Nat) (r2 : Nat) (x3 : Int32) (x4 : Int32) (x5 : Int32) (x7 : Int32) (h : JH), L_X8_parameter_293 D d Q n r0 r2 x3 x4 x5 x7 h → JW D (d + 1) mX8_parameter 293 [some (vR 41 r0), none, some (vR 46 r2), some (vI x3), some (vI x4), some (vI x5), none, some (vI x7)] [] h Q := by
  intro n
  induction n with
  | zero => intro _ _ _ _ _ _ _ w; exact w.elim
  | succ n ih => intro _ _ _ _ _ _ h w; exact w_X8_parameter_293 ih w
def W_X8_parameter_283 (D : JD) (d : Nat) (Q : JO → JH → Prop) (r0 : Nat) (r2 : Nat) (x3 : Int32) (x4 : Int32) (x5 : Int32) (x6 : Int32) (q0 : Nat) (s1 : Int32) (h : JH) : Prop :=
  q0 ≠ 0 ∧ (cX8_must D d q0 s1 (jcs D 339) h (pV D h (fun h_2 => ∃ n, L_X8_parameter_293 D d Q n r0 r2 x3 x4 x5 x6 h_2) (jth Q)))
theorem w_X8_parameter_283 {D : JD} {d : Nat} {Q : JO → JH → Prop} {r0 : Nat} {r2 : Nat} {x3 : Int32} {x4 : Int32} {x5 : Int32} {x6 : Int32} {q0 : Nat} {s1 : Int32} {h : JH} (w : W_X8_parameter_283 D d Q r0 r2 x3 x4 x5 x6 q0 s1 h) : JW D (d + 1) mX8_parameter 283 [some (vR 41 r0), none, some (vR 46 r2), some (vI x3), some (vI x4), some (vI x5), some (vI x6), none] [vI s1, vR 41 q0] h Q := by
  unfold W_X8_parameter_283 at w
  refine jw_ldcwS (pc' := 286) rfl rfl rfl rfl ?_
  obtain ⟨g_1, w⟩ := w
  refine jw_cV (st := []) (sa := [vR 41 q0, vI s1, vR 51 (jcs D 339)]) okX8_must rfl rfl rfl rfl rfl rfl (jstp_virtual (sa := [vI s1, vR 51 (jcs D 339)]) (st := []) (k := 0) rfl rfl sX8_must okX8_must g_1 (one41.k g_1) rfl rfl) w (fun h_2 _ _ w => ?_)
  refine jw_iload (pc' := 291) rfl rfl ?_
  refine jw_istore (pc' := 293) (ls' := [some (vR 41 r0), none, some (vR 46 r2), some (vI x3), some (vI x4), some (vI x5), some (vI x6), some (vI x6)]) rfl (by decide) rfl ?_
  refine jw_gen (ls' := [some (vR 41 r0), none, some (vR 46 r2), some (vI x3), some (vI x4), some (vI x5), none, some (vI x6)]) (st' := []) (And.intro (Or.inl rfl) (And.intro (Or.inl rfl) (And.intro (Or.inl rfl) (And.intro (Or.inl rfl) (And.intro (Or.inl rfl) (And.intro (Or.inl rfl) (trivial))))))) (trivial) ?_
  obtain ⟨n, w⟩ := w
  exact l_X8_parameter_293 n _ _ _ _ _ _ _ w
def W_X8_parameter_269 (D : JD) (d : Nat) (Q : JO → JH → Prop) (r0 : Nat) (r2 : Nat) (x3 : Int32) (x4 : Int32) (x5 : Int32) (s0 : Int32) (h : JH) : Prop :=
  (x3 ≤ s0 → W_X8_parameter_283 D d Q r0 r2 x3 x4 x5 s0 r0 (0 : Int32) h) ∧ (¬ x3 ≤ s0 → W_X8_parameter_283 D d Q r0 r2 x3 x4 x5 s0 r0 (1 : Int32) h)
theorem w_X8_parameter_269 {D : JD} {d : Nat} {Q : JO → JH → Prop} {r0 : Nat} {r2 : Nat} {x3 : Int32} {x4 : Int32} {x5 : Int32} {s0 : Int32} {h : JH} (w : W_X8_parameter_269 D d Q r0 r2 x3 x4 x5 s0 h) : JW D (d + 1) mX8_parameter 269 [some (vR 41 r0), none, some (vR 46 r2), some (vI x3), some (vI x4), some (vI x5), none, none] [vI s0] h Q := by
  unfold W_X8_parameter_269 at w
  refine jw_istore (pc' := 271) (ls' := [some (vR 41 r0), none, some (vR 46 r2), some (vI x3), some (vI x4), some (vI x5), some (vI s0), none]) rfl (by decide) rfl ?_
  refine jw_aload_n (pc' := 272) rfl rfl ?_
  refine jw_iload_n (pc' := 273) rfl rfl ?_
  refine jw_iload (pc' := 275) rfl rfl ?_
  refine jw_icmp_le (tgt := 282) (pc' := 278) rfl rfl (fun c_1 => ?_) (fun c_1 => ?_)
  · replace w := w.1 c_1
    refine jw_iconst (pc' := 283) (x := (0 : Int32)) rfl rfl ?_
    exact w_X8_parameter_283 w
  · replace w := w.2 c_1
    refine jw_iconst (pc' := 279) (x := (1 : Int32)) rfl rfl ?_
    refine jw_goto (pc' := 283) rfl rfl ?_
    exact w_X8_parameter_283 w
def W_X8_parameter_257 (D : JD) (d : Nat) (Q : JO → JH → Prop) (r0 : Nat) (r2 : Nat) (x3 : Int32) (x4 : Int32) (s0 : Int32) (h : JH) : Prop :=
  (s0 = 0 → W_X8_parameter_269 D d Q r0 r2 x3 x4 s0 (0 : Int32) h) ∧ (¬ s0 = 0 → W_X8_parameter_269 D d Q r0 r2 x3 x4 s0 (1 : Int32) h)
theorem w_X8_parameter_257 {D : JD} {d : Nat} {Q : JO → JH → Prop} {r0 : Nat} {r2 : Nat} {x3 : Int32} {x4 : Int32} {s0 : Int32} {h : JH} (w : W_X8_parameter_257 D d Q r0 r2 x3 x4 s0 h) : JW D (d + 1) mX8_parameter 257 [some (vR 41 r0), none, some (vR 46 r2), some (vI x3), some (vI x4), none, none, none] [vI s0] h Q := by
  unfold W_X8_parameter_257 at w
  refine jw_istore (pc' := 259) (ls' := [some (vR 41 r0), none, some (vR 46 r2), some (vI x3), some (vI x4), some (vI s0), none, none]) rfl (by decide) rfl ?_
  refine jw_iload (pc' := 261) rfl rfl ?_
  refine jw_if_eq (tgt := 268) (pc' := 264) rfl rfl (fun c_1 => ?_) (fun c_1 => ?_)
  · replace w := w.1 c_1
    refine jw_iconst (pc' := 269) (x := (0 : Int32)) rfl rfl ?_
    exact w_X8_parameter_269 w
  · replace w := w.2 c_1
    refine jw_iconst (pc' := 265) (x := (1 : Int32)) rfl rfl ?_
    refine jw_goto (pc' := 269) rfl rfl ?_
    exact w_X8_parameter_269 w
def W_X8_parameter_256 (D : JD) (d : Nat) (Q : JO → JH → Prop) (r0 : Nat) (r2 : Nat) (x3 : Int32) (x4 : Int32) (h : JH) : Prop :=
  W_X8_parameter_257 D d Q r0 r2 x3 x4 (0 : Int32) h
theorem w_X8_parameter_256 {D : JD} {d : Nat} {Q : JO → JH → Prop} {r0 : Nat} {r2 : Nat} {x3 : Int32} {x4 : Int32} {h : JH} (w : W_X8_parameter_256 D d Q r0 r2 x3 x4 h) : JW D (d + 1) mX8_parameter 256 [some (vR 41 r0), none, some (vR 46 r2), some (vI x3), some (vI x4), none, none, none] [] h Q := by
  unfold W_X8_parameter_256 at w
  refine jw_iconst (pc' := 257) (x := (0 : Int32)) rfl rfl ?_
  exact w_X8_parameter_257 w
def W_X8_parameter_233 (D : JD) (d : Nat) (Q : JO → JH → Prop) (q0 : Nat) (t1 : Int64) (h : JH) : Prop :=
  q0 ≠ 0 ∧ ∀ h_2 : JH, h_2 = wfl h 267 q0 t1 → (Q (.inl none) h_2)
theorem w_X8_parameter_233 {D : JD} {d : Nat} {Q : JO → JH → Prop} {q0 : Nat} {t1 : Int64} {h : JH} (w : W_X8_parameter_233 D d Q q0 t1 h) : JW D (d + 1) mX8_parameter 233 [none, none, none, none, none, none, none, none] [vL t1, vR 46 q0] h Q := by
  unfold W_X8_parameter_233 at w
  obtain ⟨g_1, w⟩ := w
  refine jw_putL' (pc' := 236) (F := 267) rfl rfl rfl (Or.inr rfl) (Or.inl rfl) rfl rfl rfl g_1 (fun h_2 e_3 => ?_)
  replace w := w h_2 e_3
  exact jw_return rfl rfl w
def W_X8_parameter_216 (D : JD) (d : Nat) (Q : JO → JH → Prop) (r2 : Nat) (x5 : Int32) (q0 : Nat) (s1 : Int32) (h : JH) : Prop :=
  q0 ≠ 0 ∧ (cX8_must D d q0 s1 (jcs D 339) h (pV D h (fun h_2 => (x5 = 0 → W_X8_parameter_233 D d Q r2 (0 : Int64) h_2) ∧ (¬ x5 = 0 → W_X8_parameter_233 D d Q r2 (1 : Int64) h_2)) (jth Q)))
theorem w_X8_parameter_216 {D : JD} {d : Nat} {Q : JO → JH → Prop} {r2 : Nat} {x5 : Int32} {q0 : Nat} {s1 : Int32} {h : JH} (w : W_X8_parameter_216 D d Q r2 x5 q0 s1 h) : JW D (d + 1) mX8_parameter 216 [none, none, some (vR 46 r2), none, none, some (vI x5), none, none] [vI s1, vR 41 q0] h Q := by
  unfold W_X8_parameter_216 at w
  refine jw_ldcwS (pc' := 219) rfl rfl rfl rfl ?_
  obtain ⟨g_1, w⟩ := w
  refine jw_cV (st := []) (sa := [vR 41 q0, vI s1, vR 51 (jcs D 339)]) okX8_must rfl rfl rfl rfl rfl rfl (jstp_virtual (sa := [vI s1, vR 51 (jcs D 339)]) (st := []) (k := 0) rfl rfl sX8_must okX8_must g_1 (one41.k g_1) rfl rfl) w (fun h_2 _ _ w => ?_)
  refine jw_aload_n (pc' := 223) rfl rfl ?_
  refine jw_iload (pc' := 225) rfl rfl ?_
  refine jw_if_eq (tgt := 232) (pc' := 228) rfl rfl (fun c_5 => ?_) (fun c_5 => ?_)
  · replace w := w.1 c_5
    refine jw_lconst (pc' := 233) (x := (0 : Int64)) rfl rfl ?_
    refine jw_gen (ls' := [none, none, none, none, none, none, none, none]) (st' := [vL (0 : Int64), vR 46 r2]) (trivial) (And.intro (Or.inl rfl) (And.intro (Or.inl rfl) (trivial))) ?_
    exact w_X8_parameter_233 w
  · replace w := w.2 c_5
    refine jw_lconst (pc' := 229) (x := (1 : Int64)) rfl rfl ?_
    refine jw_goto (pc' := 233) rfl rfl ?_
    refine jw_gen (ls' := [none, none, none, none, none, none, none, none]) (st' := [vL (1 : Int64), vR 46 r2]) (trivial) (And.intro (Or.inl rfl) (And.intro (Or.inl rfl) (trivial))) ?_
    exact w_X8_parameter_233 w
def W_X8_parameter_211 (D : JD) (d : Nat) (Q : JO → JH → Prop) (r2 : Nat) (x5 : Int32) (q0 : Nat) (h : JH) : Prop :=
  W_X8_parameter_216 D d Q r2 x5 q0 (1 : Int32) h
theorem w_X8_parameter_211 {D : JD} {d : Nat} {Q : JO → JH → Prop} {r2 : Nat} {x5 : Int32} {q0 : Nat} {h : JH} (w : W_X8_parameter_211 D d Q r2 x5 q0 h) : JW D (d + 1) mX8_parameter 211 [none, none, some (vR 46 r2), none, none, some (vI x5), none, none] [vR 41 q0] h Q := by
  unfold W_X8_parameter_211 at w
  refine jw_iconst (pc' := 212) (x := (1 : Int32)) rfl rfl ?_
  refine jw_goto (pc' := 216) rfl rfl ?_
  exact w_X8_parameter_216 w
def W_X8_parameter_177 (D : JD) (d : Nat) (Q : JO → JH → Prop) (r0 : Nat) (r2 : Nat) (x3 : Int32) (x4 : Int32) (s0 : Int32) (h : JH) : Prop :=
  (¬ s0 = 0 → W_X8_parameter_211 D d Q r2 s0 r0 h) ∧ (s0 = 0 → r0 ≠ 0 ∧ (cX8_spells D d r0 x4 x3 (jcs D 341) h (pI D h (fun v_5 h_3 => (¬ v_5 = 0 → W_X8_parameter_211 D d Q r2 s0 r0 h_3) ∧ (v_5 = 0 → cX8_spells D d r0 x4 x3 (jcs D 256) h_3 (pI D h_3 (fun v_9 h_7 => (v_9 = 0 → W_X8_parameter_216 D d Q r2 s0 r0 (0 : Int32) h_7) ∧ (¬ v_9 = 0 → W_X8_parameter_211 D d Q r2 s0 r0 h_7)) (jth Q)))) (jth Q))))
theorem w_X8_parameter_177 {D : JD} {d : Nat} {Q : JO → JH → Prop} {r0 : Nat} {r2 : Nat} {x3 : Int32} {x4 : Int32} {s0 : Int32} {h : JH} (w : W_X8_parameter_177 D d Q r0 r2 x3 x4 s0 h) : JW D (d + 1) mX8_parameter 177 [some (vR 41 r0), none, some (vR 46 r2), some (vI x3), some (vI x4), none, none, none] [vI s0] h Q := by
  unfold W_X8_parameter_177 at w
  refine jw_istore (pc' := 179) (ls' := [some (vR 41 r0), none, some (vR 46 r2), some (vI x3), some (vI x4), some (vI s0), none, none]) rfl (by decide) rfl ?_
  refine jw_aload_n (pc' := 180) rfl rfl ?_
  refine jw_iload (pc' := 182) rfl rfl ?_
  refine jw_if_ne (tgt := 211) (pc' := 185) rfl rfl (fun c_1 => ?_) (fun c_1 => ?_)
  · replace w := w.1 c_1
    refine jw_gen (ls' := [none, none, some (vR 46 r2), none, none, some (vI s0), none, none]) (st' := [vR 41 r0]) (And.intro (Or.inl rfl) (And.intro (Or.inl rfl) (trivial))) (And.intro (Or.inl rfl) (trivial)) ?_
    exact w_X8_parameter_211 w
  · replace w := w.2 c_1
    refine jw_aload_n (pc' := 186) rfl rfl ?_
    refine jw_iload (pc' := 188) rfl rfl ?_
    refine jw_iload_n (pc' := 189) rfl rfl ?_
    refine jw_ldcwS (pc' := 192) rfl rfl rfl rfl ?_
    obtain ⟨g_2, w⟩ := w
    refine jw_cI (st := [vR 41 r0]) (sa := [vR 41 r0, vI x4, vI x3, vR 51 (jcs D 341)]) okX8_spells rfl rfl rfl rfl rfl rfl (jstp_virtual (sa := [vI x4, vI x3, vR 51 (jcs D 341)]) (st := [vR 41 r0]) (k := 0) rfl rfl sX8_spells okX8_spells g_2 (one41.k g_2) rfl rfl) w (fun v_5 h_3 _ _ w => ?_)
    refine jw_if_ne (tgt := 211) (pc' := 198) rfl rfl (fun c_6 => ?_) (fun c_6 => ?_)
    · replace w := w.1 c_6
      refine jw_gen (ls' := [none, none, some (vR 46 r2), none, none, some (vI s0), none, none]) (st' := [vR 41 r0]) (And.intro (Or.inl rfl) (And.intro (Or.inl rfl) (trivial))) (And.intro (Or.inl rfl) (trivial)) ?_
      exact w_X8_parameter_211 w
    · replace w := w.2 c_6
      refine jw_aload_n (pc' := 199) rfl rfl ?_
      refine jw_iload (pc' := 201) rfl rfl ?_
      refine jw_iload_n (pc' := 202) rfl rfl ?_
      refine jw_ldcwS (pc' := 205) rfl rfl rfl rfl ?_
      refine jw_cI (st := [vR 41 r0]) (sa := [vR 41 r0, vI x4, vI x3, vR 51 (jcs D 256)]) okX8_spells rfl rfl rfl rfl rfl rfl (jstp_virtual (sa := [vI x4, vI x3, vR 51 (jcs D 256)]) (st := [vR 41 r0]) (k := 0) rfl rfl sX8_spells okX8_spells g_2 (one41.k g_2) rfl rfl) w (fun v_9 h_7 _ _ w => ?_)
      refine jw_if_eq (tgt := 215) (pc' := 211) rfl rfl (fun c_10 => ?_) (fun c_10 => ?_)
      · replace w := w.1 c_10
        refine jw_iconst (pc' := 216) (x := (0 : Int32)) rfl rfl ?_
        refine jw_gen (ls' := [none, none, some (vR 46 r2), none, none, some (vI s0), none, none]) (st' := [vI (0 : Int32), vR 41 r0]) (And.intro (Or.inl rfl) (And.intro (Or.inl rfl) (trivial))) (And.intro (Or.inl rfl) (And.intro (Or.inl rfl) (trivial))) ?_
        exact w_X8_parameter_216 w
      · replace w := w.2 c_10
        refine jw_gen (ls' := [none, none, some (vR 46 r2), none, none, some (vI s0), none, none]) (st' := [vR 41 r0]) (And.intro (Or.inl rfl) (And.intro (Or.inl rfl) (trivial))) (And.intro (Or.inl rfl) (trivial)) ?_
        exact w_X8_parameter_211 w
def W_X8_parameter_172 (D : JD) (d : Nat) (Q : JO → JH → Prop) (r0 : Nat) (r2 : Nat) (x3 : Int32) (x4 : Int32) (h : JH) : Prop :=
  W_X8_parameter_177 D d Q r0 r2 x3 x4 (1 : Int32) h
theorem w_X8_parameter_172 {D : JD} {d : Nat} {Q : JO → JH → Prop} {r0 : Nat} {r2 : Nat} {x3 : Int32} {x4 : Int32} {h : JH} (w : W_X8_parameter_172 D d Q r0 r2 x3 x4 h) : JW D (d + 1) mX8_parameter 172 [some (vR 41 r0), none, some (vR 46 r2), some (vI x3), some (vI x4), none, none, none] [] h Q := by
  unfold W_X8_parameter_172 at w
  refine jw_iconst (pc' := 173) (x := (1 : Int32)) rfl rfl ?_
  refine jw_goto (pc' := 177) rfl rfl ?_
  exact w_X8_parameter_177 w
def W_X8_parameter_113 (D : JD) (d : Nat) (Q : JO → JH → Prop) (K73 : Nat → Nat → Int32 → Int32 → Int32 → JH → Prop) (r0 : Nat) (r2 : Nat) (x3 : Int32) (x4 : Int32) (x5 : Int32) (q0 : Nat) (s1 : Int32) (h : JH) : Prop :=
  q0 ≠ 0 ∧ (cX8_must D d q0 s1 (jcs D 339) h (pV D h (fun h_2 => r0 ≠ 0 ∧ ((jfr h_2 224 r0) ≠ 0 ∧ jin (x4 + x5) (jln h_2 (jfr h_2 224 r0)) ∧ (r2 ≠ 0 ∧ (cX13_put D d r2 (jai h_2 (jfr h_2 224 r0) (ixn (x4 + x5))) h_2 (pV D h_2 (fun h_9 => K73 r0 r2 x3 x4 (x5 + (1 : Int32)) h_9) (jth Q)))))) (jth Q)))
theorem w_X8_parameter_113 {D : JD} {d : Nat} {Q : JO → JH → Prop} {K73 : Nat → Nat → Int32 → Int32 → Int32 → JH → Prop} {r0 : Nat} {r2 : Nat} {x3 : Int32} {x4 : Int32} {x5 : Int32} {q0 : Nat} {s1 : Int32} {h : JH} (hK73 : ∀ (r0 : Nat) (r2 : Nat) (x3 : Int32) (x4 : Int32) (x5 : Int32) (h : JH), K73 r0 r2 x3 x4 x5 h → JW D (d + 1) mX8_parameter 73 [some (vR 41 r0), none, some (vR 46 r2), some (vI x3), some (vI x4), some (vI x5), none, none] [] h Q) (w : W_X8_parameter_113 D d Q K73 r0 r2 x3 x4 x5 q0 s1 h) : JW D (d + 1) mX8_parameter 113 [some (vR 41 r0), none, some (vR 46 r2), some (vI x3), some (vI x4), some (vI x5), none, none] [vI s1, vR 41 q0] h Q := by
  unfold W_X8_parameter_113 at w
  refine jw_ldcwS (pc' := 116) rfl rfl rfl rfl ?_
  obtain ⟨g_1, w⟩ := w
  refine jw_cV (st := []) (sa := [vR 41 q0, vI s1, vR 51 (jcs D 339)]) okX8_must rfl rfl rfl rfl rfl rfl (jstp_virtual (sa := [vI s1, vR 51 (jcs D 339)]) (st := []) (k := 0) rfl rfl sX8_must okX8_must g_1 (one41.k g_1) rfl rfl) w (fun h_2 _ _ w => ?_)
  refine jw_aload_n (pc' := 120) rfl rfl ?_
  refine jw_aload_n (pc' := 121) rfl rfl ?_
  obtain ⟨g_5, w⟩ := w
  refine jw_getR (pc' := 124) (F := 224) (t' := 179) rfl rfl rfl rfl rfl g_5 ?_
  refine jw_iload (pc' := 126) rfl rfl ?_
  refine jw_iload (pc' := 128) rfl rfl ?_
  refine jw_iadd (pc' := 129) rfl ?_
  obtain ⟨g_6, w⟩ := w
  obtain ⟨g_7, w⟩ := w
  refine jw_bald (pc' := 130) rfl rfl rfl rfl g_6 g_7.ix g_7.2 ?_
  obtain ⟨g_8, w⟩ := w
  refine jw_cV (st := []) (sa := [vR 46 r2, vI (jai h_2 (jfr h_2 224 r0) (ixn (x4 + x5)))]) okX13_put rfl rfl rfl rfl rfl rfl (jstp_virtual (sa := [vI (jai h_2 (jfr h_2 224 r0) (ixn (x4 + x5)))]) (st := []) (k := 0) rfl rfl sX13_put okX13_put g_8 (one46.k g_8) rfl rfl) w (fun h_9 _ _ w => ?_)
  refine jw_iinc (pc' := 136) (y := x5 + (1 : Int32)) (ls' := [some (vR 41 r0), none, some (vR 46 r2), some (vI x3), some (vI x4), some (vI (x5 + (1 : Int32))), none, none]) rfl (by decide) rfl rfl rfl ?_
  refine jw_goto (pc' := 73) rfl rfl ?_
  exact hK73 _ _ _ _ _ _ w
def W_X8_parameter_112 (D : JD) (d : Nat) (Q : JO → JH → Prop) (K73 : Nat → Nat → Int32 → Int32 → Int32 → JH → Prop) (r0 : Nat) (r2 : Nat) (x3 : Int32) (x4 : Int32) (x5 : Int32) (q0 : Nat) (h : JH) : Prop :=
  W_X8_parameter_113 D d Q K73 r0 r2 x3 x4 x5 q0 (0 : Int32) h
theorem w_X8_parameter_112 {D : JD} {d : Nat} {Q : JO → JH → Prop} {K73 : Nat → Nat → Int32 → Int32 → Int32 → JH → Prop} {r0 : Nat} {r2 : Nat} {x3 : Int32} {x4 : Int32} {x5 : Int32} {q0 : Nat} {h : JH} (hK73 : ∀ (r0 : Nat) (r2 : Nat) (x3 : Int32) (x4 : Int32) (x5 : Int32) (h : JH), K73 r0 r2 x3 x4 x5 h → JW D (d + 1) mX8_parameter 73 [some (vR 41 r0), none, some (vR 46 r2), some (vI x3), some (vI x4), some (vI x5), none, none] [] h Q) (w : W_X8_parameter_112 D d Q K73 r0 r2 x3 x4 x5 q0 h) : JW D (d + 1) mX8_parameter 112 [some (vR 41 r0), none, some (vR 46 r2), some (vI x3), some (vI x4), some (vI x5), none, none] [vR 41 q0] h Q := by
  unfold W_X8_parameter_112 at w
  refine jw_iconst (pc' := 113) (x := (0 : Int32)) rfl rfl ?_
  exact w_X8_parameter_113 hK73 w
def W_X8_parameter_73 (D : JD) (d : Nat) (Q : JO → JH → Prop) (K73 : Nat → Nat → Int32 → Int32 → Int32 → JH → Prop) (r0 : Nat) (r2 : Nat) (x3 : Int32) (x4 : Int32) (x5 : Int32) (h : JH) : Prop :=
  (x3 ≤ x5 → Q (.inl none) h) ∧ (¬ x3 ≤ x5 → r0 ≠ 0 ∧ (cX8_b D d r0 (x4 + x5) h (pI D h (fun v_5 h_3 => (v_5 < (32 : Int32) → W_X8_parameter_112 D d Q K73 r0 r2 x3 x4 x5 r0 h_3) ∧ (¬ v_5 < (32 : Int32) → cX8_b D d r0 (x4 + x5) h_3 (pI D h_3 (fun v_9 h_7 => ((126 : Int32) < v_9 → W_X8_parameter_112 D d Q K73 r0 r2 x3 x4 x5 r0 h_7) ∧ (¬ (126 : Int32) < v_9 → W_X8_parameter_113 D d Q K73 r0 r2 x3 x4 x5 r0 (1 : Int32) h_7)) (jth Q)))) (jth Q))))
theorem w_X8_parameter_73 {D : JD} {d : Nat} {Q : JO → JH → Prop} {K73 : Nat → Nat → Int32 → Int32 → Int32 → JH → Prop} {r0 : Nat} {r2 : Nat} {x3 : Int32} {x4 : Int32} {x5 : Int32} {h : JH} (hK73 : ∀ (r0 : Nat) (r2 : Nat) (x3 : Int32) (x4 : Int32) (x5 : Int32) (h : JH), K73 r0 r2 x3 x4 x5 h → JW D (d + 1) mX8_parameter 73 [some (vR 41 r0), none, some (vR 46 r2), some (vI x3), some (vI x4), some (vI x5), none, none] [] h Q) (w : W_X8_parameter_73 D d Q K73 r0 r2 x3 x4 x5 h) : JW D (d + 1) mX8_parameter 73 [some (vR 41 r0), none, some (vR 46 r2), some (vI x3), some (vI x4), some (vI x5), none, none] [] h Q := by
  unfold W_X8_parameter_73 at w
  refine jw_iload (pc' := 75) rfl rfl ?_
  refine jw_iload_n (pc' := 76) rfl rfl ?_
  refine jw_icmp_ge (tgt := 139) (pc' := 79) rfl rfl (fun c_1 => ?_) (fun c_1 => ?_)
  · replace w := w.1 c_1
    exact jw_return rfl rfl w
  · replace w := w.2 c_1
    refine jw_aload_n (pc' := 80) rfl rfl ?_
    refine jw_aload_n (pc' := 81) rfl rfl ?_
    refine jw_iload (pc' := 83) rfl rfl ?_
    refine jw_iload (pc' := 85) rfl rfl ?_
    refine jw_iadd (pc' := 86) rfl ?_
    obtain ⟨g_2, w⟩ := w
    refine jw_cI (st := [vR 41 r0]) (sa := [vR 41 r0, vI (x4 + x5)]) okX8_b rfl rfl rfl rfl rfl rfl (jstp_virtual (sa := [vI (x4 + x5)]) (st := [vR 41 r0]) (k := 0) rfl rfl sX8_b okX8_b g_2 (one41.k g_2) rfl rfl) w (fun v_5 h_3 _ _ w => ?_)
    refine jw_bipush (pc' := 91) (x := (32 : Int32)) rfl rfl ?_
    refine jw_icmp_lt (tgt := 112) (pc' := 94) rfl rfl (fun c_6 => ?_) (fun c_6 => ?_)
    · replace w := w.1 c_6
      exact w_X8_parameter_112 hK73 w
    · replace w := w.2 c_6
      refine jw_aload_n (pc' := 95) rfl rfl ?_
      refine jw_iload (pc' := 97) rfl rfl ?_
      refine jw_iload (pc' := 99) rfl rfl ?_
      refine jw_iadd (pc' := 100) rfl ?_
      refine jw_cI (st := [vR 41 r0]) (sa := [vR 41 r0, vI (x4 + x5)]) okX8_b rfl rfl rfl rfl rfl rfl (jstp_virtual (sa := [vI (x4 + x5)]) (st := [vR 41 r0]) (k := 0) rfl rfl sX8_b okX8_b g_2 (one41.k g_2) rfl rfl) w (fun v_9 h_7 _ _ w => ?_)
      refine jw_bipush (pc' := 105) (x := (126 : Int32)) rfl rfl ?_
      refine jw_icmp_gt (tgt := 112) (pc' := 108) rfl rfl (fun c_10 => ?_) (fun c_10 => ?_)
      · replace w := w.1 c_10
        exact w_X8_parameter_112 hK73 w
      · replace w := w.2 c_10
        refine jw_iconst (pc' := 109) (x := (1 : Int32)) rfl rfl ?_
        refine jw_goto (pc' := 113) rfl rfl ?_
        exact w_X8_parameter_113 hK73 w
def L_X8_parameter_73 (D : JD) (d : Nat) (Q : JO → JH → Prop) : Nat → Nat → Nat → Int32 → Int32 → Int32 → JH → Prop
  | 0 => fun _ _ _ _ _ _ => False
  | n + 1 => fun r0 r2 x3 x4 x5 h => W_X8_parameter_73 D d Q (L_X8_parameter_73 D d Q n) r0 r2 x3 x4 x5 h
theorem l_X8_parameter_73 {D : JD} {d : Nat} {Q : JO → JH → Prop} : ∀ (n : Nat) (r0 : Nat) (r2 : Nat) (x3 : Int32) (x4 : Int32) (x5 : Int32) (h : JH), L_X8_parameter_73 D d Q n r0 r2 x3 x4 x5 h → JW D (d + 1) mX8_parameter 73 [some (vR 41 r0), none, some (vR 46 r2), some (vI x3), some (vI x4), some (vI x5), none, none] [] h Q := by
  intro n
  induction n with
  | zero => intro _ _ _ _ _ _ w; exact w.elim
  | succ n ih => intro _ _ _ _ _ h w; exact w_X8_parameter_73 ih w
def W_X8_parameter_64 (D : JD) (d : Nat) (Q : JO → JH → Prop) (r0 : Nat) (r2 : Nat) (x3 : Int32) (x4 : Int32) (q0 : Nat) (s1 : Int32) (h : JH) : Prop :=
  q0 ≠ 0 ∧ (cX8_must D d q0 s1 (jcs D 339) h (pV D h (fun h_2 => ∃ n, L_X8_parameter_73 D d Q n r0 r2 x3 x4 (0 : Int32) h_2) (jth Q)))
theorem w_X8_parameter_64 {D : JD} {d : Nat} {Q : JO → JH → Prop} {r0 : Nat} {r2 : Nat} {x3 : Int32} {x4 : Int32} {q0 : Nat} {s1 : Int32} {h : JH} (w : W_X8_parameter_64 D d Q r0 r2 x3 x4 q0 s1 h) : JW D (d + 1) mX8_parameter 64 [some (vR 41 r0), none, some (vR 46 r2), some (vI x3), some (vI x4), none, none, none] [vI s1, vR 41 q0] h Q := by
  unfold W_X8_parameter_64 at w
  refine jw_ldcwS (pc' := 67) rfl rfl rfl rfl ?_
  obtain ⟨g_1, w⟩ := w
  refine jw_cV (st := []) (sa := [vR 41 q0, vI s1, vR 51 (jcs D 339)]) okX8_must rfl rfl rfl rfl rfl rfl (jstp_virtual (sa := [vI s1, vR 51 (jcs D 339)]) (st := []) (k := 0) rfl rfl sX8_must okX8_must g_1 (one41.k g_1) rfl rfl) w (fun h_2 _ _ w => ?_)
  refine jw_iconst (pc' := 71) (x := (0 : Int32)) rfl rfl ?_
  refine jw_istore (pc' := 73) (ls' := [some (vR 41 r0), none, some (vR 46 r2), some (vI x3), some (vI x4), some (vI (0 : Int32)), none, none]) rfl (by decide) rfl ?_
  obtain ⟨n, w⟩ := w
  exact l_X8_parameter_73 n _ _ _ _ _ _ w
def W_X8_parameter_0 (D : JD) (d : Nat) (Q : JO → JH → Prop) (r0 : Nat) (x1 : Int32) (r2 : Nat) (h : JH) : Prop :=
  r0 ≠ 0 ∧ (cX8_read4 D d r0 h (pI D h (fun v_4 h_2 => r2 ≠ 0 ∧ ∀ h_6 : JH, h_6 = wfi h_2 266 r2 (0 : Int32) → (∀ h_8 : JH, h_8 = wfl h_6 267 r2 (0 : Int64) → (∀ h_10 : JH, h_10 = wfi h_8 268 r2 (0 : Int32) → ((0 ≤ v_4 → ∀ h_13 : JH, h_13 = wfi h_10 238 r0 ((jfi h_10 238 r0) + v_4) → (∀ h_15 : JH, h_15 = wfi h_13 266 r2 x1 → ((¬ x1 = (25 : Int32) → (¬ x1 = (16 : Int32) → (v_4 ≤ 0 → W_X8_parameter_256 D d Q r0 r2 v_4 (jfi h_10 238 r0) h_15) ∧ (¬ v_4 ≤ 0 → cX8_b D d r0 (jfi h_10 238 r0) h_15 (pI D h_15 (fun v_22 h_20 => (¬ v_22 = (45 : Int32) → W_X8_parameter_256 D d Q r0 r2 v_4 (jfi h_10 238 r0) h_20) ∧ (v_22 = (45 : Int32) → W_X8_parameter_257 D d Q r0 r2 v_4 (jfi h_10 238 r0) (1 : Int32) h_20)) (jth Q)))) ∧ (x1 = (16 : Int32) → cX8_spells D d r0 (jfi h_10 238 r0) v_4 (jcs D 340) h_15 (pI D h_15 (fun v_26 h_24 => (¬ v_26 = 0 → W_X8_parameter_172 D d Q r0 r2 v_4 (jfi h_10 238 r0) h_24) ∧ (v_26 = 0 → cX8_spells D d r0 (jfi h_10 238 r0) v_4 (jcs D 255) h_24 (pI D h_24 (fun v_30 h_28 => (v_30 = 0 → W_X8_parameter_177 D d Q r0 r2 v_4 (jfi h_10 238 r0) (0 : Int32) h_28) ∧ (¬ v_30 = 0 → W_X8_parameter_172 D d Q r0 r2 v_4 (jfi h_10 238 r0) h_28)) (jth Q)))) (jth Q)))) ∧ (x1 = (25 : Int32) → ((40 : Int32) < v_4 → W_X8_parameter_64 D d Q r0 r2 v_4 (jfi h_10 238 r0) r0 (0 : Int32) h_15) ∧ (¬ (40 : Int32) < v_4 → W_X8_parameter_64 D d Q r0 r2 v_4 (jfi h_10 238 r0) r0 (1 : Int32) h_15))))) ∧ (¬ 0 ≤ v_4 → Q (.inl none) h_10))))) (jth Q)))
theorem w_X8_parameter_0 {D : JD} {d : Nat} {Q : JO → JH → Prop} {r0 : Nat} {x1 : Int32} {r2 : Nat} {h : JH} (w : W_X8_parameter_0 D d Q r0 x1 r2 h) : JW D (d + 1) mX8_parameter 0 [some (vR 41 r0), some (vI x1), some (vR 46 r2), none, none, none, none, none] [] h Q := by
  unfold W_X8_parameter_0 at w
  refine jw_aload_n (pc' := 1) rfl rfl ?_
  obtain ⟨g_1, w⟩ := w
  refine jw_cI (st := []) (sa := [vR 41 r0]) okX8_read4 rfl rfl rfl rfl rfl rfl (jstp_virtual (sa := []) (st := []) (k := 0) rfl rfl sX8_read4 okX8_read4 g_1 (one41.k g_1) rfl rfl) w (fun v_4 h_2 _ _ w => ?_)
  refine jw_istore_n (pc' := 5) (ls' := [some (vR 41 r0), some (vI x1), some (vR 46 r2), some (vI v_4), none, none, none, none]) rfl (by decide) rfl ?_
  refine jw_aload_n (pc' := 6) rfl rfl ?_
  refine jw_iconst (pc' := 7) (x := (0 : Int32)) rfl rfl ?_
  obtain ⟨g_5, w⟩ := w
  refine jw_putI' (pc' := 10) (F := 266) rfl rfl rfl (Or.inr rfl) (Or.inl rfl) rfl (rfl) (rfl) rfl g_5 (fun h_6 e_7 => ?_)
  replace w := w h_6 e_7
  refine jw_aload_n (pc' := 11) rfl rfl ?_
  refine jw_lconst (pc' := 12) (x := (0 : Int64)) rfl rfl ?_
  refine jw_putL' (pc' := 15) (F := 267) rfl rfl rfl (Or.inr rfl) (Or.inl rfl) rfl rfl rfl g_5 (fun h_8 e_9 => ?_)
  replace w := w h_8 e_9
  refine jw_aload_n (pc' := 16) rfl rfl ?_
  refine jw_iconst (pc' := 17) (x := (0 : Int32)) rfl rfl ?_
  refine jw_putI' (pc' := 20) (F := 268) rfl rfl rfl (Or.inr rfl) (Or.inl rfl) rfl (rfl) (rfl) rfl g_5 (fun h_10 e_11 => ?_)
  replace w := w h_10 e_11
  refine jw_iload_n (pc' := 21) rfl rfl ?_
  refine jw_if_ge (tgt := 25) (pc' := 24) rfl rfl (fun c_12 => ?_) (fun c_12 => ?_)
  · replace w := w.1 c_12
    refine jw_aload_n (pc' := 26) rfl rfl ?_
    refine jw_getI (pc' := 29) (F := 238) rfl rfl rfl rfl g_1 ?_
    refine jw_istore (pc' := 31) (ls' := [some (vR 41 r0), some (vI x1), some (vR 46 r2), some (vI v_4), some (vI (jfi h_10 238 r0)), none, none, none]) rfl (by decide) rfl ?_
    refine jw_aload_n (pc' := 32) rfl rfl ?_
    refine jw_dup (pc' := 33) rfl rfl ?_
    refine jw_getI (pc' := 36) (F := 238) rfl rfl rfl rfl g_1 ?_
    refine jw_iload_n (pc' := 37) rfl rfl ?_
    refine jw_iadd (pc' := 38) rfl ?_
    refine jw_putI' (pc' := 41) (F := 238) rfl rfl rfl (Or.inr rfl) (Or.inl rfl) rfl (rfl) (rfl) rfl g_1 (fun h_13 e_14 => ?_)
    replace w := w h_13 e_14
    refine jw_aload_n (pc' := 42) rfl rfl ?_
    refine jw_iload_n (pc' := 43) rfl rfl ?_
    refine jw_putI' (pc' := 46) (F := 266) rfl rfl rfl (Or.inr rfl) (Or.inl rfl) rfl (rfl) (rfl) rfl g_5 (fun h_15 e_16 => ?_)
    replace w := w h_15 e_16
    refine jw_iload_n (pc' := 47) rfl rfl ?_
    refine jw_bipush (pc' := 49) (x := (25 : Int32)) rfl rfl ?_
    refine jw_icmp_ne (tgt := 140) (pc' := 52) rfl rfl (fun c_17 => ?_) (fun c_17 => ?_)
    · replace w := w.1 c_17
      refine jw_iload_n (pc' := 141) rfl rfl ?_
      refine jw_bipush (pc' := 143) (x := (16 : Int32)) rfl rfl ?_
      refine jw_icmp_ne (tgt := 237) (pc' := 146) rfl rfl (fun c_18 => ?_) (fun c_18 => ?_)
      · replace w := w.1 c_18
        refine jw_iload_n (pc' := 238) rfl rfl ?_
        refine jw_if_le (tgt := 256) (pc' := 241) rfl rfl (fun c_19 => ?_) (fun c_19 => ?_)
        · replace w := w.1 c_19
          refine jw_gen (ls' := [some (vR 41 r0), none, some (vR 46 r2), some (vI v_4), some (vI (jfi h_10 238 r0)), none, none, none]) (st' := []) (And.intro (Or.inl rfl) (And.intro (Or.inl rfl) (And.intro (Or.inl rfl) (And.intro (Or.inl rfl) (trivial))))) (trivial) ?_
          exact w_X8_parameter_256 w
        · replace w := w.2 c_19
          refine jw_aload_n (pc' := 242) rfl rfl ?_
          refine jw_iload (pc' := 244) rfl rfl ?_
          refine jw_cI (st := []) (sa := [vR 41 r0, vI (jfi h_10 238 r0)]) okX8_b rfl rfl rfl rfl rfl rfl (jstp_virtual (sa := [vI (jfi h_10 238 r0)]) (st := []) (k := 0) rfl rfl sX8_b okX8_b g_1 (one41.k g_1) rfl rfl) w (fun v_22 h_20 _ _ w => ?_)
          refine jw_bipush (pc' := 249) (x := (45 : Int32)) rfl rfl ?_
          refine jw_icmp_ne (tgt := 256) (pc' := 252) rfl rfl (fun c_23 => ?_) (fun c_23 => ?_)
          · replace w := w.1 c_23
            refine jw_gen (ls' := [some (vR 41 r0), none, some (vR 46 r2), some (vI v_4), some (vI (jfi h_10 238 r0)), none, none, none]) (st' := []) (And.intro (Or.inl rfl) (And.intro (Or.inl rfl) (And.intro (Or.inl rfl) (And.intro (Or.inl rfl) (trivial))))) (trivial) ?_
            exact w_X8_parameter_256 w
          · replace w := w.2 c_23
            refine jw_iconst (pc' := 253) (x := (1 : Int32)) rfl rfl ?_
            refine jw_goto (pc' := 257) rfl rfl ?_
            refine jw_gen (ls' := [some (vR 41 r0), none, some (vR 46 r2), some (vI v_4), some (vI (jfi h_10 238 r0)), none, none, none]) (st' := [vI (1 : Int32)]) (And.intro (Or.inl rfl) (And.intro (Or.inl rfl) (And.intro (Or.inl rfl) (And.intro (Or.inl rfl) (trivial))))) (And.intro (Or.inl rfl) (trivial)) ?_
            exact w_X8_parameter_257 w
      · replace w := w.2 c_18
        refine jw_aload_n (pc' := 147) rfl rfl ?_
        refine jw_iload (pc' := 149) rfl rfl ?_
        refine jw_iload_n (pc' := 150) rfl rfl ?_
        refine jw_ldcwS (pc' := 153) rfl rfl rfl rfl ?_
        refine jw_cI (st := []) (sa := [vR 41 r0, vI (jfi h_10 238 r0), vI v_4, vR 51 (jcs D 340)]) okX8_spells rfl rfl rfl rfl rfl rfl (jstp_virtual (sa := [vI (jfi h_10 238 r0), vI v_4, vR 51 (jcs D 340)]) (st := []) (k := 0) rfl rfl sX8_spells okX8_spells g_1 (one41.k g_1) rfl rfl) w (fun v_26 h_24 _ _ w => ?_)
        refine jw_if_ne (tgt := 172) (pc' := 159) rfl rfl (fun c_27 => ?_) (fun c_27 => ?_)
        · replace w := w.1 c_27
          refine jw_gen (ls' := [some (vR 41 r0), none, some (vR 46 r2), some (vI v_4), some (vI (jfi h_10 238 r0)), none, none, none]) (st' := []) (And.intro (Or.inl rfl) (And.intro (Or.inl rfl) (And.intro (Or.inl rfl) (And.intro (Or.inl rfl) (trivial))))) (trivial) ?_
          exact w_X8_parameter_172 w
        · replace w := w.2 c_27
          refine jw_aload_n (pc' := 160) rfl rfl ?_
          refine jw_iload (pc' := 162) rfl rfl ?_
          refine jw_iload_n (pc' := 163) rfl rfl ?_
          refine jw_ldcwS (pc' := 166) rfl rfl rfl rfl ?_
          refine jw_cI (st := []) (sa := [vR 41 r0, vI (jfi h_10 238 r0), vI v_4, vR 51 (jcs D 255)]) okX8_spells rfl rfl rfl rfl rfl rfl (jstp_virtual (sa := [vI (jfi h_10 238 r0), vI v_4, vR 51 (jcs D 255)]) (st := []) (k := 0) rfl rfl sX8_spells okX8_spells g_1 (one41.k g_1) rfl rfl) w (fun v_30 h_28 _ _ w => ?_)
          refine jw_if_eq (tgt := 176) (pc' := 172) rfl rfl (fun c_31 => ?_) (fun c_31 => ?_)
          · replace w := w.1 c_31
            refine jw_iconst (pc' := 177) (x := (0 : Int32)) rfl rfl ?_
            refine jw_gen (ls' := [some (vR 41 r0), none, some (vR 46 r2), some (vI v_4), some (vI (jfi h_10 238 r0)), none, none, none]) (st' := [vI (0 : Int32)]) (And.intro (Or.inl rfl) (And.intro (Or.inl rfl) (And.intro (Or.inl rfl) (And.intro (Or.inl rfl) (trivial))))) (And.intro (Or.inl rfl) (trivial)) ?_
            exact w_X8_parameter_177 w
          · replace w := w.2 c_31
            refine jw_gen (ls' := [some (vR 41 r0), none, some (vR 46 r2), some (vI v_4), some (vI (jfi h_10 238 r0)), none, none, none]) (st' := []) (And.intro (Or.inl rfl) (And.intro (Or.inl rfl) (And.intro (Or.inl rfl) (And.intro (Or.inl rfl) (trivial))))) (trivial) ?_
            exact w_X8_parameter_172 w
    · replace w := w.2 c_17
      refine jw_aload_n (pc' := 53) rfl rfl ?_
      refine jw_iload_n (pc' := 54) rfl rfl ?_
      refine jw_bipush (pc' := 56) (x := (40 : Int32)) rfl rfl ?_
      refine jw_icmp_gt (tgt := 63) (pc' := 59) rfl rfl (fun c_32 => ?_) (fun c_32 => ?_)
      · replace w := w.1 c_32
        refine jw_iconst (pc' := 64) (x := (0 : Int32)) rfl rfl ?_
        refine jw_gen (ls' := [some (vR 41 r0), none, some (vR 46 r2), some (vI v_4), some (vI (jfi h_10 238 r0)), none, none, none]) (st' := [vI (0 : Int32), vR 41 r0]) (And.intro (Or.inl rfl) (And.intro (Or.inl rfl) (And.intro (Or.inl rfl) (And.intro (Or.inl rfl) (trivial))))) (And.intro (Or.inl rfl) (And.intro (Or.inl rfl) (trivial))) ?_
        exact w_X8_parameter_64 w
      · replace w := w.2 c_32
        refine jw_iconst (pc' := 60) (x := (1 : Int32)) rfl rfl ?_
        refine jw_goto (pc' := 64) rfl rfl ?_
        refine jw_gen (ls' := [some (vR 41 r0), none, some (vR 46 r2), some (vI v_4), some (vI (jfi h_10 238 r0)), none, none, none]) (st' := [vI (1 : Int32), vR 41 r0]) (And.intro (Or.inl rfl) (And.intro (Or.inl rfl) (And.intro (Or.inl rfl) (And.intro (Or.inl rfl) (trivial))))) (And.intro (Or.inl rfl) (And.intro (Or.inl rfl) (trivial))) ?_
        exact w_X8_parameter_64 w
  · replace w := w.2 c_12
    exact jw_return rfl rfl w
def T_X8_parameter (D : JD) (d : Nat) (Q : JO → JH → Prop) (r0 : Nat) (x1 : Int32) (r2 : Nat) (h : JH) : Prop := W_X8_parameter_0 D d Q r0 x1 r2 h
theorem t_X8_parameter {D : JD} {d : Nat} {Q : JO → JH → Prop} {r0 : Nat} {x1 : Int32} {r2 : Nat} {h : JH} (w : T_X8_parameter D d Q r0 x1 r2 h) : cX8_parameter D (d + 1) r0 x1 r2 h Q := by
  unfold T_X8_parameter at w
  unfold cX8_parameter
  exact w_X8_parameter_0 w
def W_X8_spells_13 (D : JD) (d : Nat) (Q : JO → JH → Prop) (K13 : Nat → Int32 → Int32 → Nat → Int32 → JH → Prop) (r0 : Nat) (x1 : Int32) (x2 : Int32) (r3 : Nat) (x4 : Int32) (h : JH) : Prop :=
  (x2 ≤ x4 → Q (.inl (some (vI (1 : Int32)))) h) ∧ (¬ x2 ≤ x4 → r0 ≠ 0 ∧ (cX8_b D d r0 (x1 + x4) h (pI D h (fun v_5 h_3 => r3 ≠ 0 ∧ (cJ5_charAt D d r3 x4 h_3 (pI D h_3 (fun v_9 h_7 => (v_5 = v_9 → K13 r0 x1 x2 r3 (x4 + (1 : Int32)) h_7) ∧ (¬ v_5 = v_9 → Q (.inl (some (vI (0 : Int32)))) h_7)) (jth Q)))) (jth Q))))
theorem w_X8_spells_13 {D : JD} {d : Nat} {Q : JO → JH → Prop} {K13 : Nat → Int32 → Int32 → Nat → Int32 → JH → Prop} {r0 : Nat} {x1 : Int32} {x2 : Int32} {r3 : Nat} {x4 : Int32} {h : JH} (hK13 : ∀ (r0 : Nat) (x1 : Int32) (x2 : Int32) (r3 : Nat) (x4 : Int32) (h : JH), K13 r0 x1 x2 r3 x4 h → JW D (d + 1) mX8_spells 13 [some (vR 41 r0), some (vI x1), some (vI x2), some (vR 64 r3), some (vI x4)] [] h Q) (w : W_X8_spells_13 D d Q K13 r0 x1 x2 r3 x4 h) : JW D (d + 1) mX8_spells 13 [some (vR 41 r0), some (vI x1), some (vI x2), some (vR 64 r3), some (vI x4)] [] h Q := by
  unfold W_X8_spells_13 at w
  refine jw_iload (pc' := 15) rfl rfl ?_
  refine jw_iload_n (pc' := 16) rfl rfl ?_
  refine jw_icmp_ge (tgt := 44) (pc' := 19) rfl rfl (fun c_1 => ?_) (fun c_1 => ?_)
  · replace w := w.1 c_1
    refine jw_iconst (pc' := 45) (x := (1 : Int32)) rfl rfl ?_
    exact jw_ireturn rfl rfl (rfl) w
  · replace w := w.2 c_1
    refine jw_aload_n (pc' := 20) rfl rfl ?_
    refine jw_iload_n (pc' := 21) rfl rfl ?_
    refine jw_iload (pc' := 23) rfl rfl ?_
    refine jw_iadd (pc' := 24) rfl ?_
    obtain ⟨g_2, w⟩ := w
    refine jw_cI (st := []) (sa := [vR 41 r0, vI (x1 + x4)]) okX8_b rfl rfl rfl rfl rfl rfl (jstp_virtual (sa := [vI (x1 + x4)]) (st := []) (k := 0) rfl rfl sX8_b okX8_b g_2 (one41.k g_2) rfl rfl) w (fun v_5 h_3 _ _ w => ?_)
    refine jw_aload_n (pc' := 28) rfl rfl ?_
    refine jw_iload (pc' := 30) rfl rfl ?_
    obtain ⟨g_6, w⟩ := w
    refine jw_cI (st := [vI v_5]) (sa := [vR 64 r3, vI x4]) okJ5_charAt rfl rfl rfl rfl rfl rfl (jstp_virtual (sa := [vI x4]) (st := [vI v_5]) (k := 0) rfl rfl sJ5_charAt okJ5_charAt g_6 (one64.k g_6) rfl rfl) w (fun v_9 h_7 _ _ w => ?_)
    refine jw_icmp_eq (tgt := 38) (pc' := 36) rfl rfl (fun c_10 => ?_) (fun c_10 => ?_)
    · replace w := w.1 c_10
      refine jw_iinc (pc' := 41) (y := x4 + (1 : Int32)) (ls' := [some (vR 41 r0), some (vI x1), some (vI x2), some (vR 64 r3), some (vI (x4 + (1 : Int32)))]) rfl (by decide) rfl rfl rfl ?_
      refine jw_goto (pc' := 13) rfl rfl ?_
      exact hK13 _ _ _ _ _ _ w
    · replace w := w.2 c_10
      refine jw_iconst (pc' := 37) (x := (0 : Int32)) rfl rfl ?_
      exact jw_ireturn rfl rfl (rfl) w
def L_X8_spells_13 (D : JD) (d : Nat) (Q : JO → JH → Prop) : Nat → Nat → Int32 → Int32 → Nat → Int32 → JH → Prop
  | 0 => fun _ _ _ _ _ _ => False
  | n + 1 => fun r0 x1 x2 r3 x4 h => W_X8_spells_13 D d Q (L_X8_spells_13 D d Q n) r0 x1 x2 r3 x4 h
theorem l_X8_spells_13 {D : JD} {d : Nat} {Q : JO → JH → Prop} : ∀ (n : Nat) (r0 : Nat) (x1 : Int32) (x2 : Int32) (r3 : Nat) (x4 : Int32) (h : JH), L_X8_spells_13 D d Q n r0 x1 x2 r3 x4 h → JW D (d + 1) mX8_spells 13 [some (vR 41 r0), some (vI x1), some (vI x2), some (vR 64 r3), some (vI x4)] [] h Q := by
  intro n
  induction n with
  | zero => intro _ _ _ _ _ _ w; exact w.elim
  | succ n ih => intro _ _ _ _ _ h w; exact w_X8_spells_13 ih w
def W_X8_spells_0 (D : JD) (d : Nat) (Q : JO → JH → Prop) (r0 : Nat) (x1 : Int32) (x2 : Int32) (r3 : Nat) (h : JH) : Prop :=
  r3 ≠ 0 ∧ (cJ5_length D d r3 h (pI D h (fun v_4 h_2 => (x2 = v_4 → ∃ n, L_X8_spells_13 D d Q n r0 x1 x2 r3 (0 : Int32) h_2) ∧ (¬ x2 = v_4 → Q (.inl (some (vI (0 : Int32)))) h_2)) (jth Q)))
theorem w_X8_spells_0 {D : JD} {d : Nat} {Q : JO → JH → Prop} {r0 : Nat} {x1 : Int32} {x2 : Int32} {r3 : Nat} {h : JH} (w : W_X8_spells_0 D d Q r0 x1 x2 r3 h) : JW D (d + 1) mX8_spells 0 [some (vR 41 r0), some (vI x1), some (vI x2), some (vR 64 r3), none] [] h Q := by
  unfold W_X8_spells_0 at w
  refine jw_iload_n (pc' := 1) rfl rfl ?_
  refine jw_aload_n (pc' := 2) rfl rfl ?_
  obtain ⟨g_1, w⟩ := w
  refine jw_cI (st := [vI x2]) (sa := [vR 64 r3]) okJ5_length rfl rfl rfl rfl rfl rfl (jstp_virtual (sa := []) (st := [vI x2]) (k := 0) rfl rfl sJ5_length okJ5_length g_1 (one64.k g_1) rfl rfl) w (fun v_4 h_2 _ _ w => ?_)
  refine jw_icmp_eq (tgt := 10) (pc' := 8) rfl rfl (fun c_5 => ?_) (fun c_5 => ?_)
  · replace w := w.1 c_5
    refine jw_iconst (pc' := 11) (x := (0 : Int32)) rfl rfl ?_
    refine jw_istore (pc' := 13) (ls' := [some (vR 41 r0), some (vI x1), some (vI x2), some (vR 64 r3), some (vI (0 : Int32))]) rfl (by decide) rfl ?_
    obtain ⟨n, w⟩ := w
    exact l_X8_spells_13 n _ _ _ _ _ _ w
  · replace w := w.2 c_5
    refine jw_iconst (pc' := 9) (x := (0 : Int32)) rfl rfl ?_
    exact jw_ireturn rfl rfl (rfl) w
def T_X8_spells (D : JD) (d : Nat) (Q : JO → JH → Prop) (r0 : Nat) (x1 : Int32) (x2 : Int32) (r3 : Nat) (h : JH) : Prop := W_X8_spells_0 D d Q r0 x1 x2 r3 h
theorem t_X8_spells {D : JD} {d : Nat} {Q : JO → JH → Prop} {r0 : Nat} {x1 : Int32} {x2 : Int32} {r3 : Nat} {h : JH} (w : T_X8_spells D d Q r0 x1 x2 r3 h) : cX8_spells D (d + 1) r0 x1 x2 r3 h Q := by
  unfold T_X8_spells at w
  unfold cX8_spells
  exact w_X8_spells_0 w
