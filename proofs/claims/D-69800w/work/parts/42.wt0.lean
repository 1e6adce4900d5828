/-! what each method needs (printed by tools/gen_wp.py) -/
set_option maxRecDepth 4000
def W_X10_init_14 (D : JD) (d : Nat) (Q : JO → JH → Prop) (K14 : Nat → Int32 → JH → Prop) (r0 : Nat) (x1 : Int32) (h : JH) : Prop :=
  ((4 : Int32) ≤ x1 → Q (.inl none) h) ∧ (¬ (4 : Int32) ≤ x1 → r0 ≠ 0 ∧ (∀ (r_3 : Nat) (h_4 : JH), r_3 = jsz h + 1 → h_4 = nwo h 118 8 → (cX11_init D d r_3 h_4 (pV D h_4 (fun h_7 => (jfr h 248 r0) ≠ 0 ∧ jin x1 (jln h_7 (jfr h 248 r0)) ∧ ∀ h_12 : JH, h_12 = war h_7 (jfr h 248 r0) (ixn x1) r_3 → (K14 r0 (x1 + (1 : Int32)) h_12)) (jth Q)))))
theorem w_X10_init_14 {D : JD} {d : Nat} {Q : JO → JH → Prop} {K14 : Nat → Int32 → JH → Prop} {r0 : Nat} {x1 : Int32} {h : JH} (hK14 : ∀ (r0 : Nat) (x1 : Int32) (h : JH), K14 r0 x1 h → JW D (d + 1) mX10_init 14 [some (vR 43 r0), some (vI x1)] [] h Q) (w : W_X10_init_14 D d Q K14 r0 x1 h) : JW D (d + 1) mX10_init 14 [some (vR 43 r0), some (vI x1)] [] h Q := by
  unfold W_X10_init_14 at w
  refine jw_iload_n (pc' := 15) rfl rfl ?_
  refine jw_iconst (pc' := 16) (x := (4 : Int32)) rfl rfl ?_
  refine jw_icmp_ge (tgt := 38) (pc' := 19) rfl rfl (fun c_1 => ?_) (fun c_1 => ?_)
  · replace w := w.1 c_1
    exact jw_return rfl rfl w
  · replace w := w.2 c_1
    refine jw_aload_n (pc' := 20) rfl rfl ?_
    obtain ⟨g_2, w⟩ := w
    refine jw_getR (pc' := 23) (F := 248) (t' := 187) rfl rfl rfl rfl rfl g_2 ?_
    refine jw_iload_n (pc' := 24) rfl rfl ?_
    refine jw_new' (pc' := 27) (k := 118) (n := 8) rfl rfl rfl rfl rfl rfl rfl (fun r_3 h_4 e_5 e_6 => ?_)
    replace w := w r_3 h_4 e_5 e_6
    refine jw_dup (pc' := 28) rfl rfl ?_
    refine jw_cV (st := [vR 118 r_3, vI x1, vR 187 (jfr h 248 r0)]) (sa := [vR 118 r_3]) okX11_init rfl rfl rfl rfl rfl rfl (jstp_init (sa := []) (st := [vR 118 r_3, vI x1, vR 187 (jfr h 248 r0)]) rfl rfl sX11_init okX11_init (lw_g (jtb_mem (c := 15) (i := 112) rfl) rfl) (jnz e_5) rfl rfl) w (fun h_7 _ _ w => ?_)
    obtain ⟨g_10, w⟩ := w
    obtain ⟨g_11, w⟩ := w
    refine jw_aast' (pc' := 32) rfl rfl rfl rfl rfl rfl g_10 g_11 (fun h_12 e_13 => ?_)
    replace w := w h_12 e_13
    refine jw_iinc (pc' := 35) (y := x1 + (1 : Int32)) (ls' := [some (vR 43 r0), some (vI (x1 + (1 : Int32)))]) rfl (by decide) rfl rfl rfl ?_
    refine jw_goto (pc' := 14) rfl rfl ?_
    exact hK14 _ _ _ w
def L_X10_init_14 (D : JD) (d : Nat) (Q : JO → JH → Prop) : Nat → Nat → Int32 → JH → Prop
  | 0 => fun _ _ _ => False
  | n + 1 => fun r0 x1 h => W_X10_init_14 D d Q (L_X10_init_14 D d Q n) r0 x1 h
theorem l_X10_init_14 {D : JD} {d : Nat} {Q : JO → JH → Prop} : ∀ (n : Nat) (r0 : Nat) (x1 : Int32) (h : JH), L_X10_init_14 D d Q n r0 x1 h → JW D (d + 1) mX10_init 14 [some (vR 43 r0), some (vI x1)] [] h Q := by
  intro n
  induction n with
  | zero => intro _ _ _ w; exact w.elim
  | succ n ih => intro _ _ h w; exact w_X10_init_14 ih w
def W_X10_init_0 (D : JD) (d : Nat) (Q : JO → JH → Prop) (r0 : Nat) (h : JH) : Prop :=
  r0 ≠ 0 ∧ (∀ (r_2 : Nat) (h_3 : JH), r_2 = jsz h + 1 → h_3 = nwa h 187 4 → (∀ h_6 : JH, h_6 = wfr h_3 248 r0 r_2 → (∃ n, L_X10_init_14 D d Q n r0 (0 : Int32) h_6)))
theorem w_X10_init_0 {D : JD} {d : Nat} {Q : JO → JH → Prop} {r0 : Nat} {h : JH} (w : W_X10_init_0 D d Q r0 h) : JW D (d + 1) mX10_init 0 [some (vR 43 r0), none] [] h Q := by
  unfold W_X10_init_0 at w
  refine jw_aload_n (pc' := 1) rfl rfl ?_
  obtain ⟨g_1, w⟩ := w
  refine jw_obj (pc' := 4) rfl (lw_g (jtb_mem (c := 15) (i := 106) rfl) rfl) rfl g_1 ?_
  refine jw_aload_n (pc' := 5) rfl rfl ?_
  refine jw_iconst (pc' := 6) (x := (4 : Int32)) rfl rfl ?_
  refine jw_anew' (pc' := 9) (n := 4) (k := 187) rfl rfl rfl rfl rfl rfl rfl (jtb_mem (c := 15) (i := 108) rfl) ⟨by decide, rfl⟩ rfl (fun r_2 h_3 e_4 e_5 => ?_)
  replace w := w r_2 h_3 e_4 e_5
  refine jw_putR' (pc' := 12) (F := 248) rfl rfl rfl (Or.inr rfl) (Or.inr ⟨rfl, rfl⟩) rfl rfl rfl g_1 (fun h_6 e_7 => ?_)
  replace w := w h_6 e_7
  refine jw_iconst (pc' := 13) (x := (0 : Int32)) rfl rfl ?_
  refine jw_istore_n (pc' := 14) (ls' := [some (vR 43 r0), some (vI (0 : Int32))]) rfl (by decide) rfl ?_
  obtain ⟨n, w⟩ := w
  exact l_X10_init_14 n _ _ _ w
def T_X10_init (D : JD) (d : Nat) (Q : JO → JH → Prop) (r0 : Nat) (h : JH) : Prop := W_X10_init_0 D d Q r0 h
theorem t_X10_init {D : JD} {d : Nat} {Q : JO → JH → Prop} {r0 : Nat} {h : JH} (w : T_X10_init D d Q r0 h) : cX10_init D (d + 1) r0 h Q := by
  unfold T_X10_init at w
  unfold cX10_init
  exact w_X10_init_0 w
def W_X10_take_10 (D : JD) (d : Nat) (Q : JO → JH → Prop) (K10 : Nat → Nat → Int32 → JH → Prop) (r0 : Nat) (r1 : Nat) (x2 : Int32) (h : JH) : Prop :=
  r0 ≠ 0 ∧ (((jfi h 247 r0) ≤ x2 → Q (.inl none) h) ∧ (¬ (jfi h 247 r0) ≤ x2 → (jfr h 248 r0) ≠ 0 ∧ jin x2 (jln h (jfr h 248 r0)) ∧ (r1 ≠ 0 ∧ ((jfr h 248 r1) ≠ 0 ∧ jin x2 (jln h (jfr h 248 r1)) ∧ ((jar h (jfr h 248 r0) (ixn x2)) ≠ 0 ∧ (cX11_take D d (jar h (jfr h 248 r0) (ixn x2)) (jar h (jfr h 248 r1) (ixn x2)) h (pV D h (fun h_9 => K10 r0 r1 (x2 + (1 : Int32)) h_9) (jth Q))))))))
theorem w_X10_take_10 {D : JD} {d : Nat} {Q : JO → JH → Prop} {K10 : Nat → Nat → Int32 → JH → Prop} {r0 : Nat} {r1 : Nat} {x2 : Int32} {h : JH} (hK10 : ∀ (r0 : Nat) (r1 : Nat) (x2 : Int32) (h : JH), K10 r0 r1 x2 h → JW D (d + 1) mX10_take 10 [some (vR 43 r0), some (vR 43 r1), some (vI x2)] [] h Q) (w : W_X10_take_10 D d Q K10 r0 r1 x2 h) : JW D (d + 1) mX10_take 10 [some (vR 43 r0), some (vR 43 r1), some (vI x2)] [] h Q := by
  unfold W_X10_take_10 at w
  refine jw_iload_n (pc' := 11) rfl rfl ?_
  refine jw_aload_n (pc' := 12) rfl rfl ?_
  obtain ⟨g_1, w⟩ := w
  refine jw_getI (pc' := 15) (F := 247) rfl rfl rfl rfl g_1 ?_
  refine jw_icmp_ge (tgt := 39) (pc' := 18) rfl rfl (fun c_2 => ?_) (fun c_2 => ?_)
  · replace w := w.1 c_2
    exact jw_return rfl rfl w
  · replace w := w.2 c_2
    refine jw_aload_n (pc' := 19) rfl rfl ?_
    refine jw_getR (pc' := 22) (F := 248) (t' := 187) rfl rfl rfl rfl rfl g_1 ?_
    refine jw_iload_n (pc' := 23) rfl rfl ?_
    obtain ⟨g_3, w⟩ := w
    obtain ⟨g_4, w⟩ := w
    refine jw_aald (pc' := 24) (t' := 44) rfl rfl rfl rfl g_3 g_4.ix g_4.2 ?_
    refine jw_aload_n (pc' := 25) rfl rfl ?_
    obtain ⟨g_5, w⟩ := w
    refine jw_getR (pc' := 28) (F := 248) (t' := 187) rfl rfl rfl rfl rfl g_5 ?_
    refine jw_iload_n (pc' := 29) rfl rfl ?_
    obtain ⟨g_6, w⟩ := w
    obtain ⟨g_7, w⟩ := w
    refine jw_aald (pc' := 30) (t' := 44) rfl rfl rfl rfl g_6 g_7.ix g_7.2 ?_
    obtain ⟨g_8, w⟩ := w
    refine jw_cV (st := []) (sa := [vR 44 (jar h (jfr h 248 r0) (ixn x2)), vR 44 (jar h (jfr h 248 r1) (ixn x2))]) okX11_take rfl rfl rfl rfl rfl rfl (jstp_virtual (sa := [vR 44 (jar h (jfr h 248 r1) (ixn x2))]) (st := []) (k := 0) rfl rfl sX11_take okX11_take g_8 (one44.k g_8) rfl rfl) w (fun h_9 _ _ w => ?_)
    refine jw_iinc (pc' := 36) (y := x2 + (1 : Int32)) (ls' := [some (vR 43 r0), some (vR 43 r1), some (vI (x2 + (1 : Int32)))]) rfl (by decide) rfl rfl rfl ?_
    refine jw_goto (pc' := 10) rfl rfl ?_
    exact hK10 _ _ _ _ w
def L_X10_take_10 (D : JD) (d : Nat) (Q : JO → JH → Prop) : Nat → Nat → Nat → Int32 → JH → Prop
  | 0 => fun _ _ _ _ => False
  | n + 1 => fun r0 r1 x2 h => W_X10_take_10 D d Q (L_X10_take_10 D d Q n) r0 r1 x2 h
theorem l_X10_take_10 {D : JD} {d : Nat} {Q : JO → JH → Prop} : ∀ (n : Nat) (r0 : Nat) (r1 : Nat) (x2 : Int32) (h : JH), L_X10_take_10 D d Q n r0 r1 x2 h → JW D (d + 1) mX10_take 10 [some (vR 43 r0), some (vR 43 r1), some (vI x2)] [] h Q := by
  intro n
  induction n with
  | zero => intro _ _ _ _ w; exact w.elim
  | succ n ih => intro _ _ _ h w; exact w_X10_take_10 ih w
def W_X10_take_0 (D : JD) (d : Nat) (Q : JO → JH → Prop) (r0 : Nat) (r1 : Nat) (h : JH) : Prop :=
  r1 ≠ 0 ∧ (r0 ≠ 0 ∧ ∀ h_3 : JH, h_3 = wfi h 247 r0 (jfi h 247 r1) → (∃ n, L_X10_take_10 D d Q n r0 r1 (0 : Int32) h_3))
theorem w_X10_take_0 {D : JD} {d : Nat} {Q : JO → JH → Prop} {r0 : Nat} {r1 : Nat} {h : JH} (w : W_X10_take_0 D d Q r0 r1 h) : JW D (d + 1) mX10_take 0 [some (vR 43 r0), some (vR 43 r1), none] [] h Q := by
  unfold W_X10_take_0 at w
  refine jw_aload_n (pc' := 1) rfl rfl ?_
  refine jw_aload_n (pc' := 2) rfl rfl ?_
  obtain ⟨g_1, w⟩ := w
  refine jw_getI (pc' := 5) (F := 247) rfl rfl rfl rfl g_1 ?_
  obtain ⟨g_2, w⟩ := w
  refine jw_putI' (pc' := 8) (F := 247) rfl rfl rfl (Or.inr rfl) (Or.inl rfl) rfl (rfl) (rfl) rfl g_2 (fun h_3 e_4 => ?_)
  replace w := w h_3 e_4
  refine jw_iconst (pc' := 9) (x := (0 : Int32)) rfl rfl ?_
  refine jw_istore_n (pc' := 10) (ls' := [some (vR 43 r0), some (vR 43 r1), some (vI (0 : Int32))]) rfl (by decide) rfl ?_
  obtain ⟨n, w⟩ := w
  exact l_X10_take_10 n _ _ _ _ w
def T_X10_take (D : JD) (d : Nat) (Q : JO → JH → Prop) (r0 : Nat) (r1 : Nat) (h : JH) : Prop := W_X10_take_0 D d Q r0 r1 h
theorem t_X10_take {D : JD} {d : Nat} {Q : JO → JH → Prop} {r0 : Nat} {r1 : Nat} {h : JH} (w : T_X10_take D d Q r0 r1 h) : cX10_take D (d + 1) r0 r1 h Q := by
  unfold T_X10_take at w
  unfold cX10_take
  exact w_X10_take_0 w
def W_X10_find_2 (D : JD) (d : Nat) (Q : JO → JH → Prop) (K2 : Nat → Nat → Int32 → JH → Prop) (r0 : Nat) (r1 : Nat) (x2 : Int32) (h : JH) : Prop :=
  r0 ≠ 0 ∧ (((jfi h 247 r0) ≤ x2 → Q (.inl (some (vR 44 0))) h) ∧ (¬ (jfi h 247 r0) ≤ x2 → (jfr h 248 r0) ≠ 0 ∧ jin x2 (jln h (jfr h 248 r0)) ∧ ((jar h (jfr h 248 r0) (ixn x2)) ≠ 0 ∧ ((jfr h 249 (jar h (jfr h 248 r0) (ixn x2))) ≠ 0 ∧ (cJ5_equals D d (jfr h 249 (jar h (jfr h 248 r0) (ixn x2))) r1 h (pI D h (fun v_9 h_7 => (v_9 = 0 → K2 r0 r1 (x2 + (1 : Int32)) h_7) ∧ (¬ v_9 = 0 → (jfr h_7 248 r0) ≠ 0 ∧ jin x2 (jln h_7 (jfr h_7 248 r0)) ∧ (Q (.inl (some (vR 44 (jar h_7 (jfr h_7 248 r0) (ixn x2))))) h_7))) (jth Q)))))))
theorem w_X10_find_2 {D : JD} {d : Nat} {Q : JO → JH → Prop} {K2 : Nat → Nat → Int32 → JH → Prop} {r0 : Nat} {r1 : Nat} {x2 : Int32} {h : JH} (hK2 : ∀ (r0 : Nat) (r1 : Nat) (x2 : Int32) (h : JH), K2 r0 r1 x2 h → JW D (d + 1) mX10_find 2 [some (vR 43 r0), some (vR 64 r1), some (vI x2)] [] h Q) (w : W_X10_find_2 D d Q K2 r0 r1 x2 h) : JW D (d + 1) mX10_find 2 [some (vR 43 r0), some (vR 64 r1), some (vI x2)] [] h Q := by
  unfold W_X10_find_2 at w
  refine jw_iload_n (pc' := 3) rfl rfl ?_
  refine jw_aload_n (pc' := 4) rfl rfl ?_
  obtain ⟨g_1, w⟩ := w
  refine jw_getI (pc' := 7) (F := 247) rfl rfl rfl rfl g_1 ?_
  refine jw_icmp_ge (tgt := 39) (pc' := 10) rfl rfl (fun c_2 => ?_) (fun c_2 => ?_)
  · replace w := w.1 c_2
    refine jw_null (pc' := 40) (t := 44) rfl ?_
    exact jw_areturn rfl rfl rfl rfl rfl w
  · replace w := w.2 c_2
    refine jw_aload_n (pc' := 11) rfl rfl ?_
    refine jw_getR (pc' := 14) (F := 248) (t' := 187) rfl rfl rfl rfl rfl g_1 ?_
    refine jw_iload_n (pc' := 15) rfl rfl ?_
    obtain ⟨g_3, w⟩ := w
    obtain ⟨g_4, w⟩ := w
    refine jw_aald (pc' := 16) (t' := 44) rfl rfl rfl rfl g_3 g_4.ix g_4.2 ?_
    obtain ⟨g_5, w⟩ := w
    refine jw_getR (pc' := 19) (F := 249) (t' := 64) rfl rfl rfl rfl rfl g_5 ?_
    refine jw_aload_n (pc' := 20) rfl rfl ?_
    obtain ⟨g_6, w⟩ := w
    refine jw_cI (st := []) (sa := [vR 64 (jfr h 249 (jar h (jfr h 248 r0) (ixn x2))), vR 64 r1]) okJ5_equals rfl rfl rfl rfl rfl rfl (jstp_virtual (sa := [vR 64 r1]) (st := []) (k := 0) rfl rfl sJ5_equals okJ5_equals g_6 (one64.k g_6) rfl rfl) w (fun v_9 h_7 _ _ w => ?_)
    refine jw_if_eq (tgt := 33) (pc' := 26) rfl rfl (fun c_10 => ?_) (fun c_10 => ?_)
    · replace w := w.1 c_10
      refine jw_iinc (pc' := 36) (y := x2 + (1 : Int32)) (ls' := [some (vR 43 r0), some (vR 64 r1), some (vI (x2 + (1 : Int32)))]) rfl (by decide) rfl rfl rfl ?_
      refine jw_goto (pc' := 2) rfl rfl ?_
      exact hK2 _ _ _ _ w
    · replace w := w.2 c_10
      refine jw_aload_n (pc' := 27) rfl rfl ?_
      refine jw_getR (pc' := 30) (F := 248) (t' := 187) rfl rfl rfl rfl rfl g_1 ?_
      refine jw_iload_n (pc' := 31) rfl rfl ?_
      obtain ⟨g_11, w⟩ := w
      obtain ⟨g_12, w⟩ := w
      refine jw_aald (pc' := 32) (t' := 44) rfl rfl rfl rfl g_11 g_12.ix g_12.2 ?_
      exact jw_areturn rfl rfl rfl rfl rfl w
def L_X10_find_2 (D : JD) (d : Nat) (Q : JO → JH → Prop) : Nat → Nat → Nat → Int32 → JH → Prop
  | 0 => fun _ _ _ _ => False
  | n + 1 => fun r0 r1 x2 h => W_X10_find_2 D d Q (L_X10_find_2 D d Q n) r0 r1 x2 h
theorem l_X10_find_2 {D : JD} {d : Nat} {Q : JO → JH → Prop} : ∀ (n : Nat) (r0 : Nat) (r1 : Nat) (x2 : Int32) (h : JH), L_X10_find_2 D d Q n r0 r1 x2 h → JW D (d + 1) mX10_find 2 [some (vR 43 r0), some (vR 64 r1), some (vI x2)] [] h Q := by
  intro n
  induction n with
  | zero => intro _ _ _ _ w; exact w.elim
  | succ n ih => intro _ _ _ h w; exact w_X10_find_2 ih w
def W_X10_find_0 (D : JD) (d : Nat) (Q : JO → JH → Prop) (r0 : Nat) (r1 : Nat) (h : JH) : Prop :=
  ∃ n, L_X10_find_2 D d Q n r0 r1 (0 : Int32) h
theorem w_X10_find_0 {D : JD} {d : Nat} {Q : JO → JH → Prop} {r0 : Nat} {r1 : Nat} {h : JH} (w : W_X10_find_0 D d Q r0 r1 h) : JW D (d + 1) mX10_find 0 [some (vR 43 r0), some (vR 64 r1), none] [] h Q := by
  unfold W_X10_find_0 at w
  refine jw_iconst (pc' := 1) (x := (0 : Int32)) rfl rfl ?_
  refine jw_istore_n (pc' := 2) (ls' := [some (vR 43 r0), some (vR 64 r1), some (vI (0 : Int32))]) rfl (by decide) rfl ?_
  obtain ⟨n, w⟩ := w
  exact l_X10_find_2 n _ _ _ _ w
def T_X10_find (D : JD) (d : Nat) (Q : JO → JH → Prop) (r0 : Nat) (r1 : Nat) (h : JH) : Prop := W_X10_find_0 D d Q r0 r1 h
theorem t_X10_find {D : JD} {d : Nat} {Q : JO → JH → Prop} {r0 : Nat} {r1 : Nat} {h : JH} (w : T_X10_find D d Q r0 r1 h) : cX10_find D (d + 1) r0 r1 h Q := by
  unfold T_X10_find at w
  unfold cX10_find
  exact w_X10_find_0 w
def W_X10_drop_18 (D : JD) (d : Nat) (Q : JO → JH → Prop) (K18 : Nat → Nat → Int32 → JH → Prop) (r0 : Nat) (r1 : Nat) (x2 : Int32) (h : JH) : Prop :=
  r0 ≠ 0 ∧ (((jfi h 247 r0) ≤ (x2 + (1 : Int32)) → ∀ h_3 : JH, h_3 = wfi h 247 r0 ((jfi h 247 r0) - (1 : Int32)) → ((jfr h_3 248 r0) ≠ 0 ∧ jin (jfi h_3 247 r0) (jln h_3 (jfr h_3 248 r0)) ∧ ∀ h_7 : JH, h_7 = war h_3 (jfr h_3 248 r0) (ixn (jfi h_3 247 r0)) r1 → (Q (.inl none) h_7))) ∧ (¬ (jfi h 247 r0) ≤ (x2 + (1 : Int32)) → (jfr h 248 r0) ≠ 0 ∧ jin (x2 + (1 : Int32)) (jln h (jfr h 248 r0)) ∧ (jin x2 (jln h (jfr h 248 r0)) ∧ ∀ h_12 : JH, h_12 = war h (jfr h 248 r0) (ixn x2) (jar h (jfr h 248 r0) (ixn (x2 + (1 : Int32)))) → (K18 r0 r1 (x2 + (1 : Int32)) h_12))))
theorem w_X10_drop_18 {D : JD} {d : Nat} {Q : JO → JH → Prop} {K18 : Nat → Nat → Int32 → JH → Prop} {r0 : Nat} {r1 : Nat} {x2 : Int32} {h : JH} (hK18 : ∀ (r0 : Nat) (r1 : Nat) (x2 : Int32) (h : JH), K18 r0 r1 x2 h → JW D (d + 1) mX10_drop 18 [some (vR 43 r0), some (vR 44 r1), some (vI x2)] [] h Q) (w : W_X10_drop_18 D d Q K18 r0 r1 x2 h) : JW D (d + 1) mX10_drop 18 [some (vR 43 r0), some (vR 44 r1), some (vI x2)] [] h Q := by
  unfold W_X10_drop_18 at w
  refine jw_iload_n (pc' := 19) rfl rfl ?_
  refine jw_iconst (pc' := 20) (x := (1 : Int32)) rfl rfl ?_
  refine jw_iadd (pc' := 21) rfl ?_
  refine jw_aload_n (pc' := 22) rfl rfl ?_
  obtain ⟨g_1, w⟩ := w
  refine jw_getI (pc' := 25) (F := 247) rfl rfl rfl rfl g_1 ?_
  refine jw_icmp_ge (tgt := 48) (pc' := 28) rfl rfl (fun c_2 => ?_) (fun c_2 => ?_)
  · replace w := w.1 c_2
    refine jw_aload_n (pc' := 49) rfl rfl ?_
    refine jw_dup (pc' := 50) rfl rfl ?_
    refine jw_getI (pc' := 53) (F := 247) rfl rfl rfl rfl g_1 ?_
    refine jw_iconst (pc' := 54) (x := (1 : Int32)) rfl rfl ?_
    refine jw_isub (pc' := 55) rfl ?_
    refine jw_putI' (pc' := 58) (F := 247) rfl rfl rfl (Or.inr rfl) (Or.inl rfl) rfl (rfl) (rfl) rfl g_1 (fun h_3 e_4 => ?_)
    replace w := w h_3 e_4
    refine jw_aload_n (pc' := 59) rfl rfl ?_
    refine jw_getR (pc' := 62) (F := 248) (t' := 187) rfl rfl rfl rfl rfl g_1 ?_
    refine jw_aload_n (pc' := 63) rfl rfl ?_
    refine jw_getI (pc' := 66) (F := 247) rfl rfl rfl rfl g_1 ?_
    refine jw_aload_n (pc' := 67) rfl rfl ?_
    obtain ⟨g_5, w⟩ := w
    obtain ⟨g_6, w⟩ := w
    refine jw_aast' (pc' := 68) rfl rfl rfl rfl rfl rfl g_5 g_6 (fun h_7 e_8 => ?_)
    replace w := w h_7 e_8
    exact jw_return rfl rfl w
  · replace w := w.2 c_2
    refine jw_aload_n (pc' := 29) rfl rfl ?_
    refine jw_getR (pc' := 32) (F := 248) (t' := 187) rfl rfl rfl rfl rfl g_1 ?_
    refine jw_iload_n (pc' := 33) rfl rfl ?_
    refine jw_aload_n (pc' := 34) rfl rfl ?_
    refine jw_getR (pc' := 37) (F := 248) (t' := 187) rfl rfl rfl rfl rfl g_1 ?_
    refine jw_iload_n (pc' := 38) rfl rfl ?_
    refine jw_iconst (pc' := 39) (x := (1 : Int32)) rfl rfl ?_
    refine jw_iadd (pc' := 40) rfl ?_
    obtain ⟨g_9, w⟩ := w
    obtain ⟨g_10, w⟩ := w
    refine jw_aald (pc' := 41) (t' := 44) rfl rfl rfl rfl g_9 g_10.ix g_10.2 ?_
    obtain ⟨g_11, w⟩ := w
    refine jw_aast' (pc' := 42) rfl rfl rfl rfl rfl rfl g_9 g_11 (fun h_12 e_13 => ?_)
    replace w := w h_12 e_13
    refine jw_iinc (pc' := 45) (y := x2 + (1 : Int32)) (ls' := [some (vR 43 r0), some (vR 44 r1), some (vI (x2 + (1 : Int32)))]) rfl (by decide) rfl rfl rfl ?_
    refine jw_goto (pc' := 18) rfl rfl ?_
    exact hK18 _ _ _ _ w
def L_X10_drop_18 (D : JD) (d : Nat) (Q : JO → JH → Prop) : Nat → Nat → Nat → Int32 → JH → Prop
  | 0 => fun _ _ _ _ => False
  | n + 1 => fun r0 r1 x2 h => W_X10_drop_18 D d Q (L_X10_drop_18 D d Q n) r0 r1 x2 h
theorem l_X10_drop_18 {D : JD} {d : Nat} {Q : JO → JH → Prop} : ∀ (n : Nat) (r0 : Nat) (r1 : Nat) (x2 : Int32) (h : JH), L_X10_drop_18 D d Q n r0 r1 x2 h → JW D (d + 1) mX10_drop 18 [some (vR 43 r0), some (vR 44 r1), some (vI x2)] [] h Q := by
  intro n
  induction n with
  | zero => intro _ _ _ _ w; exact w.elim
  | succ n ih => intro _ _ _ h w; exact w_X10_drop_18 ih w
def W_X10_drop_2 (D : JD) (d : Nat) (Q : JO → JH → Prop) (K2 : Nat → Nat → Int32 → JH → Prop) (r0 : Nat) (r1 : Nat) (x2 : Int32) (h : JH) : Prop :=
  r0 ≠ 0 ∧ ((jfr h 248 r0) ≠ 0 ∧ jin x2 (jln h (jfr h 248 r0)) ∧ (((jar h (jfr h 248 r0) (ixn x2)) = r1 → ∃ n, L_X10_drop_18 D d Q n r0 r1 x2 h) ∧ (¬ (jar h (jfr h 248 r0) (ixn x2)) = r1 → K2 r0 r1 (x2 + (1 : Int32)) h)))
theorem w_X10_drop_2 {D : JD} {d : Nat} {Q : JO → JH → Prop} {K2 : Nat → Nat → Int32 → JH → Prop} {r0 : Nat} {r1 : Nat} {x2 : Int32} {h : JH} (hK2 : ∀ (r0 : Nat) (r1 : Nat) (x2 : Int32) (h : JH), K2 r0 r1 x2 h → JW D (d + 1) mX10_drop 2 [some (vR 43 r0), some (vR 44 r1), some (vI x2)] [] h Q) (w : W_X10_drop_2 D d Q K2 r0 r1 x2 h) : JW D (d + 1) mX10_drop 2 [some (vR 43 r0), some (vR 44 r1), some (vI x2)] [] h Q := by
  unfold W_X10_drop_2 at w
  refine jw_aload_n (pc' := 3) rfl rfl ?_
  obtain ⟨g_1, w⟩ := w
  refine jw_getR (pc' := 6) (F := 248) (t' := 187) rfl rfl rfl rfl rfl g_1 ?_
  refine jw_iload_n (pc' := 7) rfl rfl ?_
  obtain ⟨g_2, w⟩ := w
  obtain ⟨g_3, w⟩ := w
  refine jw_aald (pc' := 8) (t' := 44) rfl rfl rfl rfl g_2 g_3.ix g_3.2 ?_
  refine jw_aload_n (pc' := 9) rfl rfl ?_
  refine jw_acmp_eq (tgt := 18) (pc' := 12) rfl rfl (fun c_4 => ?_) (fun c_4 => ?_)
  · replace w := w.1 c_4
    obtain ⟨n, w⟩ := w
    exact l_X10_drop_18 n _ _ _ _ w
  · replace w := w.2 c_4
    refine jw_iinc (pc' := 15) (y := x2 + (1 : Int32)) (ls' := [some (vR 43 r0), some (vR 44 r1), some (vI (x2 + (1 : Int32)))]) rfl (by decide) rfl rfl rfl ?_
    refine jw_goto (pc' := 2) rfl rfl ?_
    exact hK2 _ _ _ _ w
def L_X10_drop_2 (D : JD) (d : Nat) (Q : JO → JH → Prop) : Nat → Nat → Nat → Int32 → JH → Prop
  | 0 => fun _ _ _ _ => False
  | n + 1 => fun r0 r1 x2 h => W_X10_drop_2 D d Q (L_X10_drop_2 D d Q n) r0 r1 x2 h
theorem l_X10_drop_2 {D : JD} {d : Nat} {Q : JO → JH → Prop} : ∀ (n : Nat) (r0 : Nat) (r1 : Nat) (x2 : Int32) (h : JH), L_X10_drop_2 D d Q n r0 r1 x2 h → JW D (d + 1) mX10_drop 2 [some (vR 43 r0), some (vR 44 r1), some (vI x2)] [] h Q := by
  intro n
  induction n with
  | zero => intro _ _ _ _ w; exact w.elim
  | succ n ih => intro _ _ _ h w; exact w_X10_drop_2 ih w
def W_X10_drop_0 (D : JD) (d : Nat) (Q : JO → JH → Prop) (r0 : Nat) (r1 : Nat) (h : JH) : Prop :=
  ∃ n, L_X10_drop_2 D d Q n r0 r1 (0 : Int32) h
theorem w_X10_drop_0 {D : JD} {d : Nat} {Q : JO → JH → Prop} {r0 : Nat} {r1 : Nat} {h : JH} (w : W_X10_drop_0 D d Q r0 r1 h) : JW D (d + 1) mX10_drop 0 [some (vR 43 r0), some (vR 44 r1), none] [] h Q := by
  unfold W_X10_drop_0 at w
  refine jw_iconst (pc' := 1) (x := (0 : Int32)) rfl rfl ?_
  refine jw_istore_n (pc' := 2) (ls' := [some (vR 43 r0), some (vR 44 r1), some (vI (0 : Int32))]) rfl (by decide) rfl ?_
  obtain ⟨n, w⟩ := w
  exact l_X10_drop_2 n _ _ _ _ w
def T_X10_drop (D : JD) (d : Nat) (Q : JO → JH → Prop) (r0 : Nat) (r1 : Nat) (h : JH) : Prop := W_X10_drop_0 D d Q r0 r1 h
theorem t_X10_drop {D : JD} {d : Nat} {Q : JO → JH → Prop} {r0 : Nat} {r1 : Nat} {h : JH} (w : T_X10_drop D d Q r0 r1 h) : cX10_drop D (d + 1) r0 r1 h Q := by
  unfold T_X10_drop at w
  unfold cX10_drop
  exact w_X10_drop_0 w
def W_X10_rows_4 (D : JD) (d : Nat) (Q : JO → JH → Prop) (K4 : Nat → Int32 → Int32 → JH → Prop) (r0 : Nat) (x1 : Int32) (x2 : Int32) (h : JH) : Prop :=
  r0 ≠ 0 ∧ (((jfi h 247 r0) ≤ x2 → Q (.inl (some (vI x1))) h) ∧ (¬ (jfi h 247 r0) ≤ x2 → (jfr h 248 r0) ≠ 0 ∧ jin x2 (jln h (jfr h 248 r0)) ∧ ((jar h (jfr h 248 r0) (ixn x2)) ≠ 0 ∧ (K4 r0 (x1 + (jfi h 255 (jar h (jfr h 248 r0) (ixn x2)))) (x2 + (1 : Int32)) h))))
theorem w_X10_rows_4 {D : JD} {d : Nat} {Q : JO → JH → Prop} {K4 : Nat → Int32 → Int32 → JH → Prop} {r0 : Nat} {x1 : Int32} {x2 : Int32} {h : JH} (hK4 : ∀ (r0 : Nat) (x1 : Int32) (x2 : Int32) (h : JH), K4 r0 x1 x2 h → JW D (d + 1) mX10_rows 4 [some (vR 43 r0), some (vI x1), some (vI x2)] [] h Q) (w : W_X10_rows_4 D d Q K4 r0 x1 x2 h) : JW D (d + 1) mX10_rows 4 [some (vR 43 r0), some (vI x1), some (vI x2)] [] h Q := by
  unfold W_X10_rows_4 at w
  refine jw_iload_n (pc' := 5) rfl rfl ?_
  refine jw_aload_n (pc' := 6) rfl rfl ?_
  obtain ⟨g_1, w⟩ := w
  refine jw_getI (pc' := 9) (F := 247) rfl rfl rfl rfl g_1 ?_
  refine jw_icmp_ge (tgt := 30) (pc' := 12) rfl rfl (fun c_2 => ?_) (fun c_2 => ?_)
  · replace w := w.1 c_2
    refine jw_iload_n (pc' := 31) rfl rfl ?_
    exact jw_ireturn rfl rfl (rfl) w
  · replace w := w.2 c_2
    refine jw_iload_n (pc' := 13) rfl rfl ?_
    refine jw_aload_n (pc' := 14) rfl rfl ?_
    refine jw_getR (pc' := 17) (F := 248) (t' := 187) rfl rfl rfl rfl rfl g_1 ?_
    refine jw_iload_n (pc' := 18) rfl rfl ?_
    obtain ⟨g_3, w⟩ := w
    obtain ⟨g_4, w⟩ := w
    refine jw_aald (pc' := 19) (t' := 44) rfl rfl rfl rfl g_3 g_4.ix g_4.2 ?_
    obtain ⟨g_5, w⟩ := w
    refine jw_getI (pc' := 22) (F := 255) rfl rfl rfl rfl g_5 ?_
    refine jw_iadd (pc' := 23) rfl ?_
    refine jw_istore_n (pc' := 24) (ls' := [some (vR 43 r0), some (vI (x1 + (jfi h 255 (jar h (jfr h 248 r0) (ixn x2))))), some (vI x2)]) rfl (by decide) rfl ?_
    refine jw_iinc (pc' := 27) (y := x2 + (1 : Int32)) (ls' := [some (vR 43 r0), some (vI (x1 + (jfi h 255 (jar h (jfr h 248 r0) (ixn x2))))), some (vI (x2 + (1 : Int32)))]) rfl (by decide) rfl rfl rfl ?_
    refine jw_goto (pc' := 4) rfl rfl ?_
    exact hK4 _ _ _ _ w
def L_X10_rows_4 (D : JD) (d : Nat) (Q : JO → JH → Prop) : Nat → Nat → Int32 → Int32 → JH → Prop
  | 0 => fun _ _ _ _ => False
  | n + 1 => fun r0 x1 x2 h => W_X10_rows_4 D d Q (L_X10_rows_4 D d Q n) r0 x1 x2 h
theorem l_X10_rows_4 {D : JD} {d : Nat} {Q : JO → JH → Prop} : ∀ (n : Nat) (r0 : Nat) (x1 : Int32) (x2 : Int32) (h : JH), L_X10_rows_4 D d Q n r0 x1 x2 h → JW D (d + 1) mX10_rows 4 [some (vR 43 r0), some (vI x1), some (vI x2)] [] h Q := by
  intro n
  induction n with
  | zero => intro _ _ _ _ w; exact w.elim
  | succ n ih => intro _ _ _ h w; exact w_X10_rows_4 ih w
def W_X10_rows_0 (D : JD) (d : Nat) (Q : JO → JH → Prop) (r0 : Nat) (h : JH) : Prop :=
  ∃ n, L_X10_rows_4 D d Q n r0 (0 : Int32) (0 : Int32) h
theorem w_X10_rows_0 {D : JD} {d : Nat} {Q : JO → JH → Prop} {r0 : Nat} {h : JH} (w : W_X10_rows_0 D d Q r0 h) : JW D (d + 1) mX10_rows 0 [some (vR 43 r0), none, none] [] h Q := by
  unfold W_X10_rows_0 at w
  refine jw_iconst (pc' := 1) (x := (0 : Int32)) rfl rfl ?_
  refine jw_istore_n (pc' := 2) (ls' := [some (vR 43 r0), some (vI (0 : Int32)), none]) rfl (by decide) rfl ?_
  refine jw_iconst (pc' := 3) (x := (0 : Int32)) rfl rfl ?_
  refine jw_istore_n (pc' := 4) (ls' := [some (vR 43 r0), some (vI (0 : Int32)), some (vI (0 : Int32))]) rfl (by decide) rfl ?_
  obtain ⟨n, w⟩ := w
  exact l_X10_rows_4 n _ _ _ _ w
def T_X10_rows (D : JD) (d : Nat) (Q : JO → JH → Prop) (r0 : Nat) (h : JH) : Prop := W_X10_rows_0 D d Q r0 h
theorem t_X10_rows {D : JD} {d : Nat} {Q : JO → JH → Prop} {r0 : Nat} {h : JH} (w : T_X10_rows D d Q r0 h) : cX10_rows D (d + 1) r0 h Q := by
  unfold T_X10_rows at w
  unfold cX10_rows
  exact w_X10_rows_0 w
def W_X11_init_0 (D : JD) (d : Nat) (Q : JO → JH → Prop) (r0 : Nat) (h : JH) : Prop :=
  r0 ≠ 0 ∧ (∀ (r_2 : Nat) (h_3 : JH), r_2 = jsz h + 1 → h_3 = nwa h 188 10 → (∀ h_6 : JH, h_6 = wfr h_3 251 r0 r_2 → (∀ (r_8 : Nat) (h_9 : JH), r_8 = jsz h_6 + 1 → h_9 = nwa h_6 189 10 → (∀ h_12 : JH, h_12 = wfr h_9 252 r0 r_8 → (∀ (r_14 : Nat) (h_15 : JH), r_14 = jsz h_12 + 1 → h_15 = nwa h_12 190 10 → (∀ h_18 : JH, h_18 = wfr h_15 253 r0 r_14 → (∀ (r_20 : Nat) (h_21 : JH), r_20 = jsz h_18 + 1 → h_21 = nwa h_18 191 10 → (∀ h_24 : JH, h_24 = wfr h_21 254 r0 r_20 → (∀ (r_26 : Nat) (h_27 : JH), r_26 = jsz h_24 + 1 → h_27 = jmh h_24 100 10 100 → (∀ h_30 : JH, h_30 = wfr h_27 256 r0 r_26 → (Q (.inl none) h_30)))))))))))
theorem w_X11_init_0 {D : JD} {d : Nat} {Q : JO → JH → Prop} {r0 : Nat} {h : JH} (w : W_X11_init_0 D d Q r0 h) : JW D (d + 1) mX11_init 0 [some (vR 44 r0)] [] h Q := by
  unfold W_X11_init_0 at w
  refine jw_aload_n (pc' := 1) rfl rfl ?_
  obtain ⟨g_1, w⟩ := w
  refine jw_obj (pc' := 4) rfl (lw_g (jtb_mem (c := 15) (i := 113) rfl) rfl) rfl g_1 ?_
  refine jw_aload_n (pc' := 5) rfl rfl ?_
  refine jw_bipush (pc' := 7) (x := (10 : Int32)) rfl rfl ?_
  refine jw_anew' (pc' := 10) (n := 10) (k := 188) rfl rfl rfl rfl rfl rfl rfl (jtb_mem (c := 6) (i := 222) rfl) ⟨by decide, rfl⟩ rfl (fun r_2 h_3 e_4 e_5 => ?_)
  replace w := w r_2 h_3 e_4 e_5
  refine jw_putR' (pc' := 13) (F := 251) rfl rfl rfl (Or.inr rfl) (Or.inr ⟨rfl, rfl⟩) rfl rfl rfl g_1 (fun h_6 e_7 => ?_)
  replace w := w h_6 e_7
  refine jw_aload_n (pc' := 14) rfl rfl ?_
  refine jw_bipush (pc' := 16) (x := (10 : Int32)) rfl rfl ?_
  refine jw_newa' (pc' := 18) (n := 10) (k := 189) rfl rfl rfl rfl rfl rfl (lw_g (jtb_mem (c := 2) (i := 11) rfl) rfl) ⟨by decide, rfl⟩ (by decide) (fun r_8 h_9 e_10 e_11 => ?_)
  replace w := w r_8 h_9 e_10 e_11
  refine jw_putR' (pc' := 21) (F := 252) rfl rfl rfl (Or.inr rfl) (Or.inr ⟨rfl, rfl⟩) rfl rfl rfl g_1 (fun h_12 e_13 => ?_)
  replace w := w h_12 e_13
  refine jw_aload_n (pc' := 22) rfl rfl ?_
  refine jw_bipush (pc' := 24) (x := (10 : Int32)) rfl rfl ?_
  refine jw_newa' (pc' := 26) (n := 10) (k := 190) rfl rfl rfl rfl rfl rfl (lw_g (jtb_mem (c := 9) (i := 151) rfl) rfl) ⟨by decide, rfl⟩ (by decide) (fun r_14 h_15 e_16 e_17 => ?_)
  replace w := w r_14 h_15 e_16 e_17
  refine jw_putR' (pc' := 29) (F := 253) rfl rfl rfl (Or.inr rfl) (Or.inr ⟨rfl, rfl⟩) rfl rfl rfl g_1 (fun h_18 e_19 => ?_)
  replace w := w h_18 e_19
  refine jw_aload_n (pc' := 30) rfl rfl ?_
  refine jw_bipush (pc' := 32) (x := (10 : Int32)) rfl rfl ?_
  refine jw_newa' (pc' := 34) (n := 10) (k := 191) rfl rfl rfl rfl rfl rfl (lw_g (jtb_mem (c := 9) (i := 151) rfl) rfl) ⟨by decide, rfl⟩ (by decide) (fun r_20 h_21 e_22 e_23 => ?_)
  replace w := w r_20 h_21 e_22 e_23
  refine jw_putR' (pc' := 37) (F := 254) rfl rfl rfl (Or.inr rfl) (Or.inr ⟨rfl, rfl⟩) rfl rfl rfl g_1 (fun h_24 e_25 => ?_)
  replace w := w h_24 e_25
  refine jw_aload_n (pc' := 38) rfl rfl ?_
  refine jw_bipush (pc' := 40) (x := (100 : Int32)) rfl rfl ?_
  refine jw_bipush (pc' := 42) (x := (10 : Int32)) rfl rfl ?_
  refine jw_multi' (pc' := 46) (n := 100) (m := 10) rfl rfl ⟨by decide, rfl⟩ ⟨by decide, rfl⟩ rfl rfl (fun r_26 h_27 e_28 e_29 => ?_)
  replace w := w r_26 h_27 e_28 e_29
  refine jw_putR' (pc' := 49) (F := 256) rfl rfl rfl (Or.inr rfl) (Or.inr ⟨rfl, rfl⟩) rfl rfl rfl g_1 (fun h_30 e_31 => ?_)
  replace w := w h_30 e_31
  exact jw_return rfl rfl w
def T_X11_init (D : JD) (d : Nat) (Q : JO → JH → Prop) (r0 : Nat) (h : JH) : Prop := W_X11_init_0 D d Q r0 h
theorem t_X11_init {D : JD} {d : Nat} {Q : JO → JH → Prop} {r0 : Nat} {h : JH} (w : T_X11_init D d Q r0 h) : cX11_init D (d + 1) r0 h Q := by
  unfold T_X11_init at w
  unfold cX11_init
  exact w_X11_init_0 w
def W_X11_take_100 (D : JD) (d : Nat) (Q : JO → JH → Prop) (K90 : Nat → Nat → Int32 → JH → Prop) (K100 : Nat → Nat → Int32 → Int32 → JH → Prop) (r0 : Nat) (r1 : Nat) (x2 : Int32) (x3 : Int32) (h : JH) : Prop :=
  r0 ≠ 0 ∧ (((jfi h 250 r0) ≤ x3 → K90 r0 r1 (x2 + (1 : Int32)) h) ∧ (¬ (jfi h 250 r0) ≤ x3 → cX11_cell D d r0 x2 x3 h (pR D h 46 (fun v_5 h_3 => r1 ≠ 0 ∧ (cX11_cell D d r1 x2 x3 h_3 (pR D h_3 46 (fun v_9 h_7 => v_5 ≠ 0 ∧ (cX13_take D d v_5 v_9 h_7 (pV D h_7 (fun h_11 => K100 r0 r1 x2 (x3 + (1 : Int32)) h_11) (jth Q)))) (jth Q)))) (jth Q))))
theorem w_X11_take_100 {D : JD} {d : Nat} {Q : JO → JH → Prop} {K90 : Nat → Nat → Int32 → JH → Prop} {K100 : Nat → Nat → Int32 → Int32 → JH → Prop} {r0 : Nat} {r1 : Nat} {x2 : Int32} {x3 : Int32} {h : JH} (hK90 : ∀ (r0 : Nat) (r1 : Nat) (x2 : Int32) (h : JH), K90 r0 r1 x2 h → JW D (d + 1) mX11_take 90 [some (vR 44 r0), some (vR 44 r1), some (vI x2), none] [] h Q) (hK100 : ∀ (r0 : Nat) (r1 : Nat) (x2 : Int32) (x3 : Int32) (h : JH), K100 r0 r1 x2 x3 h → JW D (d + 1) mX11_take 100 [some (vR 44 r0), some (vR 44 r1), some (vI x2), some (vI x3)] [] h Q) (w : W_X11_take_100 D d Q K90 K100 r0 r1 x2 x3 h) : JW D (d + 1) mX11_take 100 [some (vR 44 r0), some (vR 44 r1), some (vI x2), some (vI x3)] [] h Q := by
  unfold W_X11_take_100 at w
  refine jw_iload_n (pc' := 101) rfl rfl ?_
  refine jw_aload_n (pc' := 102) rfl rfl ?_
  obtain ⟨g_1, w⟩ := w
  refine jw_getI (pc' := 105) (F := 250) rfl rfl rfl rfl g_1 ?_
  refine jw_icmp_ge (tgt := 129) (pc' := 108) rfl rfl (fun c_2 => ?_) (fun c_2 => ?_)
  · replace w := w.1 c_2
    refine jw_iinc (pc' := 132) (y := x2 + (1 : Int32)) (ls' := [some (vR 44 r0), some (vR 44 r1), some (vI (x2 + (1 : Int32))), some (vI x3)]) rfl (by decide) rfl rfl rfl ?_
    refine jw_goto (pc' := 90) rfl rfl ?_
    refine jw_gen (ls' := [some (vR 44 r0), some (vR 44 r1), some (vI (x2 + (1 : Int32))), none]) (st' := []) (And.intro (Or.inl rfl) (And.intro (Or.inl rfl) (And.intro (Or.inl rfl) (trivial)))) (trivial) ?_
    exact hK90 _ _ _ _ w
  · replace w := w.2 c_2
    refine jw_aload_n (pc' := 109) rfl rfl ?_
    refine jw_iload_n (pc' := 110) rfl rfl ?_
    refine jw_iload_n (pc' := 111) rfl rfl ?_
    refine jw_cR (st := []) (sa := [vR 44 r0, vI x2, vI x3]) okX11_cell rfl rfl rfl rfl rfl rfl (jstp_virtual (sa := [vI x2, vI x3]) (st := []) (k := 0) rfl rfl sX11_cell okX11_cell g_1 (one44.k g_1) rfl rfl) w (fun v_5 h_3 _ _ _ w => ?_)
    refine jw_aload_n (pc' := 115) rfl rfl ?_
    refine jw_iload_n (pc' := 116) rfl rfl ?_
    refine jw_iload_n (pc' := 117) rfl rfl ?_
    obtain ⟨g_6, w⟩ := w
    refine jw_cR (st := [vR 46 v_5]) (sa := [vR 44 r1, vI x2, vI x3]) okX11_cell rfl rfl rfl rfl rfl rfl (jstp_virtual (sa := [vI x2, vI x3]) (st := [vR 46 v_5]) (k := 0) rfl rfl sX11_cell okX11_cell g_6 (one44.k g_6) rfl rfl) w (fun v_9 h_7 _ _ _ w => ?_)
    obtain ⟨g_10, w⟩ := w
    refine jw_cV (st := []) (sa := [vR 46 v_5, vR 46 v_9]) okX13_take rfl rfl rfl rfl rfl rfl (jstp_virtual (sa := [vR 46 v_9]) (st := []) (k := 0) rfl rfl sX13_take okX13_take g_10 (one46.k g_10) rfl rfl) w (fun h_11 _ _ w => ?_)
    refine jw_iinc (pc' := 126) (y := x3 + (1 : Int32)) (ls' := [some (vR 44 r0), some (vR 44 r1), some (vI x2), some (vI (x3 + (1 : Int32)))]) rfl (by decide) rfl rfl rfl ?_
    refine jw_goto (pc' := 100) rfl rfl ?_
    exact hK100 _ _ _ _ _ w
def L_X11_take_100 (D : JD) (d : Nat) (Q : JO → JH → Prop) (K90 : Nat → Nat → Int32 → JH → Prop) : Nat → Nat → Nat → Int32 → Int32 → JH → Prop
  | 0 => fun _ _ _ _ _ => False
  | n + 1 => fun r0 r1 x2 x3 h => W_X11_take_100 D d Q K90 (L_X11_take_100 D d Q K90 n) r0 r1 x2 x3 h
theorem l_X11_take_100 {D : JD} {d : Nat} {Q : JO → JH → Prop} {K90 : Nat → Nat → Int32 → JH → Prop} (hK90 : ∀ (r0 : Nat) (r1 : Nat) (x2 : Int32) (h : JH), K90 r0 r1 x2 h → JW D (d + 1) mX11_take 90 [some (vR 44 r0), some (vR 44 r1), some (vI x2), none] [] h Q) : ∀ (n : Nat) (r0 : Nat) (r1 : Nat) (x2 : Int32) (x3 : Int32) (h : JH), L_X11_take_100 D d Q K90 n r0 r1 x2 x3 h → JW D (d + 1) mX11_take 100 [some (vR 44 r0), some (vR 44 r1), some (vI x2), some (vI x3)] [] h Q := by
  intro n
  induction n with
  | zero => intro _ _ _ _ _ w; exact w.elim
  | succ n ih => intro _ _ _ _ h w; exact w_X11_take_100 hK90 ih w
def W_X11_take_90 (D : JD) (d : Nat) (Q : JO → JH → Prop) (K90 : Nat → Nat → Int32 → JH → Prop) (r0 : Nat) (r1 : Nat) (x2 : Int32) (h : JH) : Prop :=
  r0 ≠ 0 ∧ (((jfi h 255 r0) ≤ x2 → Q (.inl none) h) ∧ (¬ (jfi h 255 r0) ≤ x2 → ∃ n, L_X11_take_100 D d Q K90 n r0 r1 x2 (0 : Int32) h))
theorem w_X11_take_90 {D : JD} {d : Nat} {Q : JO → JH → Prop} {K90 : Nat → Nat → Int32 → JH → Prop} {r0 : Nat} {r1 : Nat} {x2 : Int32} {h : JH} (hK90 : ∀ (r0 : Nat) (r1 : Nat) (x2 : Int32) (h : JH), K90 r0 r1 x2 h → JW D (d + 1) mX11_take 90 [some (vR 44 r0), some (vR 44 r1), some (vI x2), none] [] h Q) (w : W_X11_take_90 D d Q K90 r0 r1 x2 h) : JW D (d + 1) mX11_take 90 [some (vR 44 r0), some (vR 44 r1), some (vI x2), none] [] h Q := by
  unfold W_X11_take_90 at w
  refine jw_iload_n (pc' := 91) rfl rfl ?_
  refine jw_aload_n (pc' := 92) rfl rfl ?_
  obtain ⟨g_1, w⟩ := w
  refine jw_getI (pc' := 95) (F := 255) rfl rfl rfl rfl g_1 ?_
  refine jw_icmp_ge (tgt := 135) (pc' := 98) rfl rfl (fun c_2 => ?_) (fun c_2 => ?_)
  · replace w := w.1 c_2
    exact jw_return rfl rfl w
  · replace w := w.2 c_2
    refine jw_iconst (pc' := 99) (x := (0 : Int32)) rfl rfl ?_
    refine jw_istore_n (pc' := 100) (ls' := [some (vR 44 r0), some (vR 44 r1), some (vI x2), some (vI (0 : Int32))]) rfl (by decide) rfl ?_
    obtain ⟨n, w⟩ := w
    exact l_X11_take_100 hK90 n _ _ _ _ _ w
def L_X11_take_90 (D : JD) (d : Nat) (Q : JO → JH → Prop) : Nat → Nat → Nat → Int32 → JH → Prop
  | 0 => fun _ _ _ _ => False
  | n + 1 => fun r0 r1 x2 h => W_X11_take_90 D d Q (L_X11_take_90 D d Q n) r0 r1 x2 h
theorem l_X11_take_90 {D : JD} {d : Nat} {Q : JO → JH → Prop} : ∀ (n : Nat) (r0 : Nat) (r1 : Nat) (x2 : Int32) (h : JH), L_X11_take_90 D d Q n r0 r1 x2 h → JW D (d + 1) mX11_take 90 [some (vR 44 r0), some (vR 44 r1), some (vI x2), none] [] h Q := by
  intro n
  induction n with
  | zero => intro _ _ _ _ w; exact w.elim
  | succ n ih => intro _ _ _ h w; exact w_X11_take_90 ih w
def W_X11_take_18 (D : JD) (d : Nat) (Q : JO → JH → Prop) (K18 : Nat → Nat → Int32 → JH → Prop) (r0 : Nat) (r1 : Nat) (x2 : Int32) (h : JH) : Prop :=
  r0 ≠ 0 ∧ (((jfi h 250 r0) ≤ x2 → r1 ≠ 0 ∧ (∀ h_4 : JH, h_4 = wfi h 255 r0 (jfi h 255 r1) → (∃ n, L_X11_take_90 D d Q n r0 r1 (0 : Int32) h_4))) ∧ (¬ (jfi h 250 r0) ≤ x2 → r1 ≠ 0 ∧ ((jfr h 251 r1) ≠ 0 ∧ jin x2 (jln h (jfr h 251 r1)) ∧ ((jfr h 251 r0) ≠ 0 ∧ jin x2 (jln h (jfr h 251 r0)) ∧ ∀ h_11 : JH, h_11 = war h (jfr h 251 r0) (ixn x2) (jar h (jfr h 251 r1) (ixn x2)) → ((jfr h_11 252 r1) ≠ 0 ∧ jin x2 (jln h_11 (jfr h_11 252 r1)) ∧ ((jfr h_11 252 r0) ≠ 0 ∧ jin x2 (jln h_11 (jfr h_11 252 r0)) ∧ ∀ h_17 : JH, h_17 = wai h_11 (jfr h_11 252 r0) (ixn x2) (jai h_11 (jfr h_11 252 r1) (ixn x2)) → ((jfr h_17 253 r1) ≠ 0 ∧ jin x2 (jln h_17 (jfr h_17 253 r1)) ∧ ((jfr h_17 253 r0) ≠ 0 ∧ jin x2 (jln h_17 (jfr h_17 253 r0)) ∧ jbo (jai h_17 (jfr h_17 253 r1) (ixn x2)) ∧ ∀ h_24 : JH, h_24 = wai h_17 (jfr h_17 253 r0) (ixn x2) (jai h_17 (jfr h_17 253 r1) (ixn x2)) → ((jfr h_24 254 r1) ≠ 0 ∧ jin x2 (jln h_24 (jfr h_24 254 r1)) ∧ ((jfr h_24 254 r0) ≠ 0 ∧ jin x2 (jln h_24 (jfr h_24 254 r0)) ∧ jbo (jai h_24 (jfr h_24 254 r1) (ixn x2)) ∧ ∀ h_31 : JH, h_31 = wai h_24 (jfr h_24 254 r0) (ixn x2) (jai h_24 (jfr h_24 254 r1) (ixn x2)) → (K18 r0 r1 (x2 + (1 : Int32)) h_31)))))))))))
theorem w_X11_take_18 {D : JD} {d : Nat} {Q : JO → JH → Prop} {K18 : Nat → Nat → Int32 → JH → Prop} {r0 : Nat} {r1 : Nat} {x2 : Int32} {h : JH} (hK18 : ∀ (r0 : Nat) (r1 : Nat) (x2 : Int32) (h : JH), K18 r0 r1 x2 h → JW D (d + 1) mX11_take 18 [some (vR 44 r0), some (vR 44 r1), some (vI x2), none] [] h Q) (w : W_X11_take_18 D d Q K18 r0 r1 x2 h) : JW D (d + 1) mX11_take 18 [some (vR 44 r0), some (vR 44 r1), some (vI x2), none] [] h Q := by
  unfold W_X11_take_18 at w
  refine jw_iload_n (pc' := 19) rfl rfl ?_
  refine jw_aload_n (pc' := 20) rfl rfl ?_
  obtain ⟨g_1, w⟩ := w
  refine jw_getI (pc' := 23) (F := 250) rfl rfl rfl rfl g_1 ?_
  refine jw_icmp_ge (tgt := 80) (pc' := 26) rfl rfl (fun c_2 => ?_) (fun c_2 => ?_)
  · replace w := w.1 c_2
    refine jw_aload_n (pc' := 81) rfl rfl ?_
    refine jw_aload_n (pc' := 82) rfl rfl ?_
    obtain ⟨g_3, w⟩ := w
    refine jw_getI (pc' := 85) (F := 255) rfl rfl rfl rfl g_3 ?_
    refine jw_putI' (pc' := 88) (F := 255) rfl rfl rfl (Or.inr rfl) (Or.inl rfl) rfl (rfl) (rfl) rfl g_1 (fun h_4 e_5 => ?_)
    replace w := w h_4 e_5
    refine jw_iconst (pc' := 89) (x := (0 : Int32)) rfl rfl ?_
    refine jw_istore_n (pc' := 90) (ls' := [some (vR 44 r0), some (vR 44 r1), some (vI (0 : Int32)), none]) rfl (by decide) rfl ?_
    obtain ⟨n, w⟩ := w
    exact l_X11_take_90 n _ _ _ _ w
  · replace w := w.2 c_2
    refine jw_aload_n (pc' := 27) rfl rfl ?_
    refine jw_getR (pc' := 30) (F := 251) (t' := 188) rfl rfl rfl rfl rfl g_1 ?_
    refine jw_iload_n (pc' := 31) rfl rfl ?_
    refine jw_aload_n (pc' := 32) rfl rfl ?_
    obtain ⟨g_6, w⟩ := w
    refine jw_getR (pc' := 35) (F := 251) (t' := 188) rfl rfl rfl rfl rfl g_6 ?_
    refine jw_iload_n (pc' := 36) rfl rfl ?_
    obtain ⟨g_7, w⟩ := w
    obtain ⟨g_8, w⟩ := w
    refine jw_aald (pc' := 37) (t' := 64) rfl rfl rfl rfl g_7 g_8.ix g_8.2 ?_
    obtain ⟨g_9, w⟩ := w
    obtain ⟨g_10, w⟩ := w
    refine jw_aast' (pc' := 38) rfl rfl rfl rfl rfl rfl g_9 g_10 (fun h_11 e_12 => ?_)
    replace w := w h_11 e_12
    refine jw_aload_n (pc' := 39) rfl rfl ?_
    refine jw_getR (pc' := 42) (F := 252) (t' := 189) rfl rfl rfl rfl rfl g_1 ?_
    refine jw_iload_n (pc' := 43) rfl rfl ?_
    refine jw_aload_n (pc' := 44) rfl rfl ?_
    refine jw_getR (pc' := 47) (F := 252) (t' := 189) rfl rfl rfl rfl rfl g_6 ?_
    refine jw_iload_n (pc' := 48) rfl rfl ?_
    obtain ⟨g_13, w⟩ := w
    obtain ⟨g_14, w⟩ := w
    refine jw_iald (pc' := 49) rfl rfl rfl rfl g_13 g_14.ix g_14.2 ?_
    obtain ⟨g_15, w⟩ := w
    obtain ⟨g_16, w⟩ := w
    refine jw_iast' (pc' := 50) rfl rfl rfl rfl rfl g_15 g_16 (fun h_17 e_18 => ?_)
    replace w := w h_17 e_18
    refine jw_aload_n (pc' := 51) rfl rfl ?_
    refine jw_getR (pc' := 54) (F := 253) (t' := 190) rfl rfl rfl rfl rfl g_1 ?_
    refine jw_iload_n (pc' := 55) rfl rfl ?_
    refine jw_aload_n (pc' := 56) rfl rfl ?_
    refine jw_getR (pc' := 59) (F := 253) (t' := 190) rfl rfl rfl rfl rfl g_6 ?_
    refine jw_iload_n (pc' := 60) rfl rfl ?_
    obtain ⟨g_19, w⟩ := w
    obtain ⟨g_20, w⟩ := w
    refine jw_zald (pc' := 61) rfl rfl rfl rfl g_19 g_20.ix g_20.2 ?_
    obtain ⟨g_21, w⟩ := w
    obtain ⟨g_22, w⟩ := w
    obtain ⟨g_23, w⟩ := w
    refine jw_zast' (pc' := 62) rfl rfl rfl rfl rfl (g_23.nr) g_21 g_22 (fun h_24 e_25 => ?_)
    replace w := w h_24 e_25
    refine jw_aload_n (pc' := 63) rfl rfl ?_
    refine jw_getR (pc' := 66) (F := 254) (t' := 191) rfl rfl rfl rfl rfl g_1 ?_
    refine jw_iload_n (pc' := 67) rfl rfl ?_
    refine jw_aload_n (pc' := 68) rfl rfl ?_
    refine jw_getR (pc' := 71) (F := 254) (t' := 191) rfl rfl rfl rfl rfl g_6 ?_
    refine jw_iload_n (pc' := 72) rfl rfl ?_
    obtain ⟨g_26, w⟩ := w
    obtain ⟨g_27, w⟩ := w
    refine jw_zald (pc' := 73) rfl rfl rfl rfl g_26 g_27.ix g_27.2 ?_
    obtain ⟨g_28, w⟩ := w
    obtain ⟨g_29, w⟩ := w
    obtain ⟨g_30, w⟩ := w
    refine jw_zast' (pc' := 74) rfl rfl rfl rfl rfl (g_30.nr) g_28 g_29 (fun h_31 e_32 => ?_)
    replace w := w h_31 e_32
    refine jw_iinc (pc' := 77) (y := x2 + (1 : Int32)) (ls' := [some (vR 44 r0), some (vR 44 r1), some (vI (x2 + (1 : Int32))), none]) rfl (by decide) rfl rfl rfl ?_
    refine jw_goto (pc' := 18) rfl rfl ?_
    exact hK18 _ _ _ _ w
def L_X11_take_18 (D : JD) (d : Nat) (Q : JO → JH → Prop) : Nat → Nat → Nat → Int32 → JH → Prop
  | 0 => fun _ _ _ _ => False
  | n + 1 => fun r0 r1 x2 h => W_X11_take_18 D d Q (L_X11_take_18 D d Q n) r0 r1 x2 h
theorem l_X11_take_18 {D : JD} {d : Nat} {Q : JO → JH → Prop} : ∀ (n : Nat) (r0 : Nat) (r1 : Nat) (x2 : Int32) (h : JH), L_X11_take_18 D d Q n r0 r1 x2 h → JW D (d + 1) mX11_take 18 [some (vR 44 r0), some (vR 44 r1), some (vI x2), none] [] h Q := by
  intro n
  induction n with
  | zero => intro _ _ _ _ w; exact w.elim
  | succ n ih => intro _ _ _ h w; exact w_X11_take_18 ih w
def W_X11_take_0 (D : JD) (d : Nat) (Q : JO → JH → Prop) (r0 : Nat) (r1 : Nat) (h : JH) : Prop :=
  r1 ≠ 0 ∧ (r0 ≠ 0 ∧ ∀ h_3 : JH, h_3 = wfr h 249 r0 (jfr h 249 r1) → (∀ h_5 : JH, h_5 = wfi h_3 250 r0 (jfi h_3 250 r1) → (∃ n, L_X11_take_18 D d Q n r0 r1 (0 : Int32) h_5)))
theorem w_X11_take_0 {D : JD} {d : Nat} {Q : JO → JH → Prop} {r0 : Nat} {r1 : Nat} {h : JH} (w : W_X11_take_0 D d Q r0 r1 h) : JW D (d + 1) mX11_take 0 [some (vR 44 r0), some (vR 44 r1), none, none] [] h Q := by
  unfold W_X11_take_0 at w
  refine jw_aload_n (pc' := 1) rfl rfl ?_
  refine jw_aload_n (pc' := 2) rfl rfl ?_
  obtain ⟨g_1, w⟩ := w
  refine jw_getR (pc' := 5) (F := 249) (t' := 64) rfl rfl rfl rfl rfl g_1 ?_
  obtain ⟨g_2, w⟩ := w
  refine jw_putR' (pc' := 8) (F := 249) rfl rfl rfl (Or.inr rfl) (Or.inl rfl) rfl rfl rfl g_2 (fun h_3 e_4 => ?_)
  replace w := w h_3 e_4
  refine jw_aload_n (pc' := 9) rfl rfl ?_
  refine jw_aload_n (pc' := 10) rfl rfl ?_
  refine jw_getI (pc' := 13) (F := 250) rfl rfl rfl rfl g_1 ?_
  refine jw_putI' (pc' := 16) (F := 250) rfl rfl rfl (Or.inr rfl) (Or.inl rfl) rfl (rfl) (rfl) rfl g_2 (fun h_5 e_6 => ?_)
  replace w := w h_5 e_6
  refine jw_iconst (pc' := 17) (x := (0 : Int32)) rfl rfl ?_
  refine jw_istore_n (pc' := 18) (ls' := [some (vR 44 r0), some (vR 44 r1), some (vI (0 : Int32)), none]) rfl (by decide) rfl ?_
  obtain ⟨n, w⟩ := w
  exact l_X11_take_18 n _ _ _ _ w
def T_X11_take (D : JD) (d : Nat) (Q : JO → JH → Prop) (r0 : Nat) (r1 : Nat) (h : JH) : Prop := W_X11_take_0 D d Q r0 r1 h
theorem t_X11_take {D : JD} {d : Nat} {Q : JO → JH → Prop} {r0 : Nat} {r1 : Nat} {h : JH} (w : T_X11_take D d Q r0 r1 h) : cX11_take D (d + 1) r0 r1 h Q := by
  unfold T_X11_take at w
  unfold cX11_take
  exact w_X11_take_0 w
def W_X11_cell_26 (D : JD) (d : Nat) (Q : JO → JH → Prop) (r0 : Nat) (x1 : Int32) (x2 : Int32) (h : JH) : Prop :=
  r0 ≠ 0 ∧ ((jfr h 256 r0) ≠ 0 ∧ jin x1 (jln h (jfr h 256 r0)) ∧ ((jar h (jfr h 256 r0) (ixn x1)) ≠ 0 ∧ jin x2 (jln h (jar h (jfr h 256 r0) (ixn x1))) ∧ (Q (.inl (some (vR 46 (jar h (jar h (jfr h 256 r0) (ixn x1)) (ixn x2))))) h)))
theorem w_X11_cell_26 {D : JD} {d : Nat} {Q : JO → JH → Prop} {r0 : Nat} {x1 : Int32} {x2 : Int32} {h : JH} (w : W_X11_cell_26 D d Q r0 x1 x2 h) : JW D (d + 1) mX11_cell 26 [some (vR 44 r0), some (vI x1), some (vI x2)] [] h Q := by
  unfold W_X11_cell_26 at w
  refine jw_aload_n (pc' := 27) rfl rfl ?_
  obtain ⟨g_1, w⟩ := w
  refine jw_getR (pc' := 30) (F := 256) (t' := 94) rfl rfl rfl rfl rfl g_1 ?_
  refine jw_iload_n (pc' := 31) rfl rfl ?_
  obtain ⟨g_2, w⟩ := w
  obtain ⟨g_3, w⟩ := w
  refine jw_aald (pc' := 32) (t' := 86) rfl rfl rfl rfl g_2 g_3.ix g_3.2 ?_
  refine jw_iload_n (pc' := 33) rfl rfl ?_
  obtain ⟨g_4, w⟩ := w
  obtain ⟨g_5, w⟩ := w
  refine jw_aald (pc' := 34) (t' := 46) rfl rfl rfl rfl g_4 g_5.ix g_5.2 ?_
  exact jw_areturn rfl rfl rfl rfl rfl w
def W_X11_cell_0 (D : JD) (d : Nat) (Q : JO → JH → Prop) (r0 : Nat) (x1 : Int32) (x2 : Int32) (h : JH) : Prop :=
  r0 ≠ 0 ∧ ((jfr h 256 r0) ≠ 0 ∧ jin x1 (jln h (jfr h 256 r0)) ∧ ((jar h (jfr h 256 r0) (ixn x1)) ≠ 0 ∧ jin x2 (jln h (jar h (jfr h 256 r0) (ixn x1))) ∧ (((jar h (jar h (jfr h 256 r0) (ixn x1)) (ixn x2)) ≠ 0 → W_X11_cell_26 D d Q r0 x1 x2 h) ∧ ((jar h (jar h (jfr h 256 r0) (ixn x1)) (ixn x2)) = 0 → jin x1 (jln h (jfr h 256 r0)) ∧ (∀ (r_8 : Nat) (h_9 : JH), r_8 = jsz h + 1 → h_9 = nwo h 104 4 → (cX13_init D d r_8 h_9 (pV D h_9 (fun h_12 => jin x2 (jln h_12 (jar h (jfr h 256 r0) (ixn x1))) ∧ ∀ h_16 : JH, h_16 = war h_12 (jar h (jfr h 256 r0) (ixn x1)) (ixn x2) r_8 → (W_X11_cell_26 D d Q r0 x1 x2 h_16)) (jth Q))))))))
theorem w_X11_cell_0 {D : JD} {d : Nat} {Q : JO → JH → Prop} {r0 : Nat} {x1 : Int32} {x2 : Int32} {h : JH} (w : W_X11_cell_0 D d Q r0 x1 x2 h) : JW D (d + 1) mX11_cell 0 [some (vR 44 r0), some (vI x1), some (vI x2)] [] h Q := by
  unfold W_X11_cell_0 at w
  refine jw_aload_n (pc' := 1) rfl rfl ?_
  obtain ⟨g_1, w⟩ := w
  refine jw_getR (pc' := 4) (F := 256) (t' := 94) rfl rfl rfl rfl rfl g_1 ?_
  refine jw_iload_n (pc' := 5) rfl rfl ?_
  obtain ⟨g_2, w⟩ := w
  obtain ⟨g_3, w⟩ := w
  refine jw_aald (pc' := 6) (t' := 86) rfl rfl rfl rfl g_2 g_3.ix g_3.2 ?_
  refine jw_iload_n (pc' := 7) rfl rfl ?_
  obtain ⟨g_4, w⟩ := w
  obtain ⟨g_5, w⟩ := w
  refine jw_aald (pc' := 8) (t' := 46) rfl rfl rfl rfl g_4 g_5.ix g_5.2 ?_
  refine jw_ifnonnull (tgt := 26) (pc' := 11) rfl rfl (fun c_6 => ?_) (fun c_6 => ?_)
  · replace w := w.1 c_6
    exact w_X11_cell_26 w
  · replace w := w.2 c_6
    refine jw_aload_n (pc' := 12) rfl rfl ?_
    refine jw_getR (pc' := 15) (F := 256) (t' := 94) rfl rfl rfl rfl rfl g_1 ?_
    refine jw_iload_n (pc' := 16) rfl rfl ?_
    obtain ⟨g_7, w⟩ := w
    refine jw_aald (pc' := 17) (t' := 86) rfl rfl rfl rfl g_2 g_7.ix g_7.2 ?_
    refine jw_iload_n (pc' := 18) rfl rfl ?_
    refine jw_new' (pc' := 21) (k := 104) (n := 4) rfl rfl rfl rfl rfl rfl rfl (fun r_8 h_9 e_10 e_11 => ?_)
    replace w := w r_8 h_9 e_10 e_11
    refine jw_dup (pc' := 22) rfl rfl ?_
    refine jw_cV (st := [vR 104 r_8, vI x2, vR 86 (jar h (jfr h 256 r0) (ixn x1))]) (sa := [vR 104 r_8]) okX13_init rfl rfl rfl rfl rfl rfl (jstp_init (sa := []) (st := [vR 104 r_8, vI x2, vR 86 (jar h (jfr h 256 r0) (ixn x1))]) rfl rfl sX13_init okX13_init (lw_g (jtb_mem (c := 15) (i := 221) rfl) rfl) (jnz e_10) rfl rfl) w (fun h_12 _ _ w => ?_)
    obtain ⟨g_15, w⟩ := w
    refine jw_aast' (pc' := 26) rfl rfl rfl rfl rfl rfl g_4 g_15 (fun h_16 e_17 => ?_)
    replace w := w h_16 e_17
    exact w_X11_cell_26 w
def T_X11_cell (D : JD) (d : Nat) (Q : JO → JH → Prop) (r0 : Nat) (x1 : Int32) (x2 : Int32) (h : JH) : Prop := W_X11_cell_0 D d Q r0 x1 x2 h
theorem t_X11_cell {D : JD} {d : Nat} {Q : JO → JH → Prop} {r0 : Nat} {x1 : Int32} {x2 : Int32} {h : JH} (w : T_X11_cell D d Q r0 x1 x2 h) : cX11_cell D (d + 1) r0 x1 x2 h Q := by
  unfold T_X11_cell at w
  unfold cX11_cell
  exact w_X11_cell_0 w
def W_X11_find_2 (D : JD) (d : Nat) (Q : JO → JH → Prop) (K2 : Nat → Nat → Int32 → JH → Prop) (r0 : Nat) (r1 : Nat) (x2 : Int32) (h : JH) : Prop :=
  r0 ≠ 0 ∧ (((jfi h 250 r0) ≤ x2 → Q (.inl (some (vI (-1 : Int32)))) h) ∧ (¬ (jfi h 250 r0) ≤ x2 → (jfr h 251 r0) ≠ 0 ∧ jin x2 (jln h (jfr h 251 r0)) ∧ ((jar h (jfr h 251 r0) (ixn x2)) ≠ 0 ∧ (cJ5_equals D d (jar h (jfr h 251 r0) (ixn x2)) r1 h (pI D h (fun v_8 h_6 => (v_8 = 0 → K2 r0 r1 (x2 + (1 : Int32)) h_6) ∧ (¬ v_8 = 0 → Q (.inl (some (vI x2))) h_6)) (jth Q))))))
theorem w_X11_find_2 {D : JD} {d : Nat} {Q : JO → JH → Prop} {K2 : Nat → Nat → Int32 → JH → Prop} {r0 : Nat} {r1 : Nat} {x2 : Int32} {h : JH} (hK2 : ∀ (r0 : Nat) (r1 : Nat) (x2 : Int32) (h : JH), K2 r0 r1 x2 h → JW D (d + 1) mX11_find 2 [some (vR 44 r0), some (vR 64 r1), some (vI x2)] [] h Q) (w : W_X11_find_2 D d Q K2 r0 r1 x2 h) : JW D (d + 1) mX11_find 2 [some (vR 44 r0), some (vR 64 r1), some (vI x2)] [] h Q := by
  unfold W_X11_find_2 at w
  refine jw_iload_n (pc' := 3) rfl rfl ?_
  refine jw_aload_n (pc' := 4) rfl rfl ?_
  obtain ⟨g_1, w⟩ := w
  refine jw_getI (pc' := 7) (F := 250) rfl rfl rfl rfl g_1 ?_
  refine jw_icmp_ge (tgt := 31) (pc' := 10) rfl rfl (fun c_2 => ?_) (fun c_2 => ?_)
  · replace w := w.1 c_2
    refine jw_iconst (pc' := 32) (x := (-1 : Int32)) rfl rfl ?_
    exact jw_ireturn rfl rfl (rfl) w
  · replace w := w.2 c_2
    refine jw_aload_n (pc' := 11) rfl rfl ?_
    refine jw_getR (pc' := 14) (F := 251) (t' := 188) rfl rfl rfl rfl rfl g_1 ?_
    refine jw_iload_n (pc' := 15) rfl rfl ?_
    obtain ⟨g_3, w⟩ := w
    obtain ⟨g_4, w⟩ := w
    refine jw_aald (pc' := 16) (t' := 64) rfl rfl rfl rfl g_3 g_4.ix g_4.2 ?_
    refine jw_aload_n (pc' := 17) rfl rfl ?_
    obtain ⟨g_5, w⟩ := w
    refine jw_cI (st := []) (sa := [vR 64 (jar h (jfr h 251 r0) (ixn x2)), vR 64 r1]) okJ5_equals rfl rfl rfl rfl rfl rfl (jstp_virtual (sa := [vR 64 r1]) (st := []) (k := 0) rfl rfl sJ5_equals okJ5_equals g_5 (one64.k g_5) rfl rfl) w (fun v_8 h_6 _ _ w => ?_)
    refine jw_if_eq (tgt := 25) (pc' := 23) rfl rfl (fun c_9 => ?_) (fun c_9 => ?_)
    · replace w := w.1 c_9
      refine jw_iinc (pc' := 28) (y := x2 + (1 : Int32)) (ls' := [some (vR 44 r0), some (vR 64 r1), some (vI (x2 + (1 : Int32)))]) rfl (by decide) rfl rfl rfl ?_
      refine jw_goto (pc' := 2) rfl rfl ?_
      exact hK2 _ _ _ _ w
    · replace w := w.2 c_9
      refine jw_iload_n (pc' := 24) rfl rfl ?_
      exact jw_ireturn rfl rfl (rfl) w
def L_X11_find_2 (D : JD) (d : Nat) (Q : JO → JH → Prop) : Nat → Nat → Nat → Int32 → JH → Prop
  | 0 => fun _ _ _ _ => False
  | n + 1 => fun r0 r1 x2 h => W_X11_find_2 D d Q (L_X11_find_2 D d Q n) r0 r1 x2 h
theorem l_X11_find_2 {D : JD} {d : Nat} {Q : JO → JH → Prop} : ∀ (n : Nat) (r0 : Nat) (r1 : Nat) (x2 : Int32) (h : JH), L_X11_find_2 D d Q n r0 r1 x2 h → JW D (d + 1) mX11_find 2 [some (vR 44 r0), some (vR 64 r1), some (vI x2)] [] h Q := by
  intro n
  induction n with
  | zero => intro _ _ _ _ w; exact w.elim
  | succ n ih => intro _ _ _ h w; exact w_X11_find_2 ih w
def W_X11_find_0 (D : JD) (d : Nat) (Q : JO → JH → Prop) (r0 : Nat) (r1 : Nat) (h : JH) : Prop :=
  ∃ n, L_X11_find_2 D d Q n r0 r1 (0 : Int32) h
theorem w_X11_find_0 {D : JD} {d : Nat} {Q : JO → JH → Prop} {r0 : Nat} {r1 : Nat} {h : JH} (w : W_X11_find_0 D d Q r0 r1 h) : JW D (d + 1) mX11_find 0 [some (vR 44 r0), some (vR 64 r1), none] [] h Q := by
  unfold W_X11_find_0 at w
  refine jw_iconst (pc' := 1) (x := (0 : Int32)) rfl rfl ?_
  refine jw_istore_n (pc' := 2) (ls' := [some (vR 44 r0), some (vR 64 r1), some (vI (0 : Int32))]) rfl (by decide) rfl ?_
  obtain ⟨n, w⟩ := w
  exact l_X11_find_2 n _ _ _ _ w
def T_X11_find (D : JD) (d : Nat) (Q : JO → JH → Prop) (r0 : Nat) (r1 : Nat) (h : JH) : Prop := W_X11_find_0 D d Q r0 r1 h
theorem t_X11_find {D : JD} {d : Nat} {Q : JO → JH → Prop} {r0 : Nat} {r1 : Nat} {h : JH} (w : T_X11_find D d Q r0 r1 h) : cX11_find D (d + 1) r0 r1 h Q := by
  unfold T_X11_find at w
  unfold cX11_find
  exact w_X11_find_0 w
def W_X12_init_0 (D : JD) (d : Nat) (Q : JO → JH → Prop) (r0 : Nat) (h : JH) : Prop :=
  r0 ≠ 0 ∧ (∀ (r_2 : Nat) (h_3 : JH), r_2 = jsz h + 1 → h_3 = nwa h 192 3200 → (∀ h_6 : JH, h_6 = wfr h_3 260 r0 r_2 → (∀ (r_8 : Nat) (h_9 : JH), r_8 = jsz h_6 + 1 → h_9 = nwa h_6 193 3200 → (∀ h_12 : JH, h_12 = wfr h_9 261 r0 r_8 → (∀ (r_14 : Nat) (h_15 : JH), r_14 = jsz h_12 + 1 → h_15 = nwa h_12 194 3200 → (∀ h_18 : JH, h_18 = wfr h_15 262 r0 r_14 → (∀ (r_20 : Nat) (h_21 : JH), r_20 = jsz h_18 + 1 → h_21 = nwa h_18 195 3200 → (∀ h_24 : JH, h_24 = wfr h_21 263 r0 r_20 → (∀ (r_26 : Nat) (h_27 : JH), r_26 = jsz h_24 + 1 → h_27 = nwa h_24 196 8000 → (∀ h_30 : JH, h_30 = wfr h_27 264 r0 r_26 → (Q (.inl none) h_30)))))))))))
theorem w_X12_init_0 {D : JD} {d : Nat} {Q : JO → JH → Prop} {r0 : Nat} {h : JH} (w : W_X12_init_0 D d Q r0 h) : JW D (d + 1) mX12_init 0 [some (vR 45 r0)] [] h Q := by
  unfold W_X12_init_0 at w
  refine jw_aload_n (pc' := 1) rfl rfl ?_
  obtain ⟨g_1, w⟩ := w
  refine jw_obj (pc' := 4) rfl (lw_g (jtb_mem (c := 15) (i := 179) rfl) rfl) rfl g_1 ?_
  refine jw_aload_n (pc' := 5) rfl rfl ?_
  refine jw_sipush (pc' := 8) (x := (3200 : Int32)) rfl rfl ?_
  refine jw_newa' (pc' := 10) (n := 3200) (k := 192) rfl rfl rfl rfl rfl rfl (lw_g (jtb_mem (c := 1) (i := 105) rfl) rfl) ⟨by decide, rfl⟩ (by decide) (fun r_2 h_3 e_4 e_5 => ?_)
  replace w := w r_2 h_3 e_4 e_5
  refine jw_putR' (pc' := 13) (F := 260) rfl rfl rfl (Or.inr rfl) (Or.inr ⟨rfl, rfl⟩) rfl rfl rfl g_1 (fun h_6 e_7 => ?_)
  replace w := w h_6 e_7
  refine jw_aload_n (pc' := 14) rfl rfl ?_
  refine jw_sipush (pc' := 17) (x := (3200 : Int32)) rfl rfl ?_
  refine jw_newa' (pc' := 19) (n := 3200) (k := 193) rfl rfl rfl rfl rfl rfl (lw_g (jtb_mem (c := 15) (i := 214) rfl) rfl) ⟨by decide, rfl⟩ (by decide) (fun r_8 h_9 e_10 e_11 => ?_)
  replace w := w r_8 h_9 e_10 e_11
  refine jw_putR' (pc' := 22) (F := 261) rfl rfl rfl (Or.inr rfl) (Or.inr ⟨rfl, rfl⟩) rfl rfl rfl g_1 (fun h_12 e_13 => ?_)
  replace w := w h_12 e_13
  refine jw_aload_n (pc' := 23) rfl rfl ?_
  refine jw_sipush (pc' := 26) (x := (3200 : Int32)) rfl rfl ?_
  refine jw_newa' (pc' := 28) (n := 3200) (k := 194) rfl rfl rfl rfl rfl rfl (lw_g (jtb_mem (c := 15) (i := 215) rfl) rfl) ⟨by decide, rfl⟩ (by decide) (fun r_14 h_15 e_16 e_17 => ?_)
  replace w := w r_14 h_15 e_16 e_17
  refine jw_putR' (pc' := 31) (F := 262) rfl rfl rfl (Or.inr rfl) (Or.inr ⟨rfl, rfl⟩) rfl rfl rfl g_1 (fun h_18 e_19 => ?_)
  replace w := w h_18 e_19
  refine jw_aload_n (pc' := 32) rfl rfl ?_
  refine jw_sipush (pc' := 35) (x := (3200 : Int32)) rfl rfl ?_
  refine jw_newa' (pc' := 37) (n := 3200) (k := 195) rfl rfl rfl rfl rfl rfl (lw_g (jtb_mem (c := 1) (i := 105) rfl) rfl) ⟨by decide, rfl⟩ (by decide) (fun r_20 h_21 e_22 e_23 => ?_)
  replace w := w r_20 h_21 e_22 e_23
  refine jw_putR' (pc' := 40) (F := 263) rfl rfl rfl (Or.inr rfl) (Or.inr ⟨rfl, rfl⟩) rfl rfl rfl g_1 (fun h_24 e_25 => ?_)
  replace w := w h_24 e_25
  refine jw_aload_n (pc' := 41) rfl rfl ?_
  refine jw_sipush (pc' := 44) (x := (8000 : Int32)) rfl rfl ?_
  refine jw_newa' (pc' := 46) (n := 8000) (k := 196) rfl rfl rfl rfl rfl rfl (lw_g (jtb_mem (c := 1) (i := 105) rfl) rfl) ⟨by decide, rfl⟩ (by decide) (fun r_26 h_27 e_28 e_29 => ?_)
  replace w := w r_26 h_27 e_28 e_29
  refine jw_putR' (pc' := 49) (F := 264) rfl rfl rfl (Or.inr rfl) (Or.inr ⟨rfl, rfl⟩) rfl rfl rfl g_1 (fun h_30 e_31 => ?_)
  replace w := w h_30 e_31
  exact jw_return rfl rfl w
def T_X12_init (D : JD) (d : Nat) (Q : JO → JH → Prop) (r0 : Nat) (h : JH) : Prop := W_X12_init_0 D d Q r0 h
theorem t_X12_init {D : JD} {d : Nat} {Q : JO → JH → Prop} {r0 : Nat} {h : JH} (w : T_X12_init D d Q r0 h) : cX12_init D (d + 1) r0 h Q := by
  unfold T_X12_init at w
  unfold cX12_init
  exact w_X12_init_0 w
def W_X12_put_45 (D : JD) (d : Nat) (Q : JO → JH → Prop) (K45 : Nat → Nat → Int32 → JH → Prop) (r0 : Nat) (r2 : Nat) (x3 : Int32) (h : JH) : Prop :=
  r2 ≠ 0 ∧ (((jfi h 268 r2) ≤ x3 → r0 ≠ 0 ∧ (∀ h_4 : JH, h_4 = wfi h 265 r0 ((jfi h 265 r0) + (jfi h 268 r2)) → (Q (.inl none) h_4))) ∧ (¬ (jfi h 268 r2) ≤ x3 → r0 ≠ 0 ∧ ((jfr h 269 r2) ≠ 0 ∧ jin x3 (jln h (jfr h 269 r2)) ∧ ((jfr h 264 r0) ≠ 0 ∧ jin ((jfi h 265 r0) + x3) (jln h (jfr h 264 r0)) ∧ ∀ h_11 : JH, h_11 = wai h (jfr h 264 r0) (ixn ((jfi h 265 r0) + x3)) ((Int32.toInt8 (jai h (jfr h 269 r2) (ixn x3))).toInt32) → (K45 r0 r2 (x3 + (1 : Int32)) h_11)))))
theorem w_X12_put_45 {D : JD} {d : Nat} {Q : JO → JH → Prop} {K45 : Nat → Nat → Int32 → JH → Prop} {r0 : Nat} {r2 : Nat} {x3 : Int32} {h : JH} (hK45 : ∀ (r0 : Nat) (r2 : Nat) (x3 : Int32) (h : JH), K45 r0 r2 x3 h → JW D (d + 1) mX12_put 45 [some (vR 45 r0), none, some (vR 46 r2), some (vI x3)] [] h Q) (w : W_X12_put_45 D d Q K45 r0 r2 x3 h) : JW D (d + 1) mX12_put 45 [some (vR 45 r0), none, some (vR 46 r2), some (vI x3)] [] h Q := by
  unfold W_X12_put_45 at w
  refine jw_iload_n (pc' := 46) rfl rfl ?_
  refine jw_aload_n (pc' := 47) rfl rfl ?_
  obtain ⟨g_1, w⟩ := w
  refine jw_getI (pc' := 50) (F := 268) rfl rfl rfl rfl g_1 ?_
  refine jw_icmp_ge (tgt := 76) (pc' := 53) rfl rfl (fun c_2 => ?_) (fun c_2 => ?_)
  · replace w := w.1 c_2
    refine jw_aload_n (pc' := 77) rfl rfl ?_
    refine jw_dup (pc' := 78) rfl rfl ?_
    obtain ⟨g_3, w⟩ := w
    refine jw_getI (pc' := 81) (F := 265) rfl rfl rfl rfl g_3 ?_
    refine jw_aload_n (pc' := 82) rfl rfl ?_
    refine jw_getI (pc' := 85) (F := 268) rfl rfl rfl rfl g_1 ?_
    refine jw_iadd (pc' := 86) rfl ?_
    refine jw_putI' (pc' := 89) (F := 265) rfl rfl rfl (Or.inr rfl) (Or.inl rfl) rfl (rfl) (rfl) rfl g_3 (fun h_4 e_5 => ?_)
    replace w := w h_4 e_5
    exact jw_return rfl rfl w
  · replace w := w.2 c_2
    refine jw_aload_n (pc' := 54) rfl rfl ?_
    obtain ⟨g_6, w⟩ := w
    refine jw_getR (pc' := 57) (F := 264) (t' := 196) rfl rfl rfl rfl rfl g_6 ?_
    refine jw_aload_n (pc' := 58) rfl rfl ?_
    refine jw_getI (pc' := 61) (F := 265) rfl rfl rfl rfl g_6 ?_
    refine jw_iload_n (pc' := 62) rfl rfl ?_
    refine jw_iadd (pc' := 63) rfl ?_
    refine jw_aload_n (pc' := 64) rfl rfl ?_
    refine jw_getR (pc' := 67) (F := 269) (t' := 197) rfl rfl rfl rfl rfl g_1 ?_
    refine jw_iload_n (pc' := 68) rfl rfl ?_
    obtain ⟨g_7, w⟩ := w
    obtain ⟨g_8, w⟩ := w
    refine jw_bald (pc' := 69) rfl rfl rfl rfl g_7 g_8.ix g_8.2 ?_
    obtain ⟨g_9, w⟩ := w
    obtain ⟨g_10, w⟩ := w
    refine jw_bast' (pc' := 70) rfl rfl rfl rfl rfl g_9 g_10 (fun h_11 e_12 => ?_)
    replace w := w h_11 e_12
    refine jw_iinc (pc' := 73) (y := x3 + (1 : Int32)) (ls' := [some (vR 45 r0), none, some (vR 46 r2), some (vI (x3 + (1 : Int32)))]) rfl (by decide) rfl rfl rfl ?_
    refine jw_goto (pc' := 45) rfl rfl ?_
    exact hK45 _ _ _ _ w
def L_X12_put_45 (D : JD) (d : Nat) (Q : JO → JH → Prop) : Nat → Nat → Nat → Int32 → JH → Prop
  | 0 => fun _ _ _ _ => False
  | n + 1 => fun r0 r2 x3 h => W_X12_put_45 D d Q (L_X12_put_45 D d Q n) r0 r2 x3 h
theorem l_X12_put_45 {D : JD} {d : Nat} {Q : JO → JH → Prop} : ∀ (n : Nat) (r0 : Nat) (r2 : Nat) (x3 : Int32) (h : JH), L_X12_put_45 D d Q n r0 r2 x3 h → JW D (d + 1) mX12_put 45 [some (vR 45 r0), none, some (vR 46 r2), some (vI x3)] [] h Q := by
  intro n
  induction n with
  | zero => intro _ _ _ _ w; exact w.elim
  | succ n ih => intro _ _ _ h w; exact w_X12_put_45 ih w
def W_X12_put_0 (D : JD) (d : Nat) (Q : JO → JH → Prop) (r0 : Nat) (x1 : Int32) (r2 : Nat) (h : JH) : Prop :=
  r0 ≠ 0 ∧ (r2 ≠ 0 ∧ ((jfr h 260 r0) ≠ 0 ∧ jin x1 (jln h (jfr h 260 r0)) ∧ ∀ h_5 : JH, h_5 = wai h (jfr h 260 r0) (ixn x1) ((Int32.toInt8 ((Int32.toInt8 (jfi h 266 r2)).toInt32)).toInt32) → ((jfr h_5 261 r0) ≠ 0 ∧ jin x1 (jln h_5 (jfr h_5 261 r0)) ∧ ∀ h_9 : JH, h_9 = wal h_5 (jfr h_5 261 r0) (ixn x1) (jfl h_5 267 r2) → ((jfr h_9 262 r0) ≠ 0 ∧ jin x1 (jln h_9 (jfr h_9 262 r0)) ∧ ∀ h_13 : JH, h_13 = wai h_9 (jfr h_9 262 r0) (ixn x1) ((Int32.toInt16 ((Int32.toInt16 (jfi h_9 265 r0)).toInt32)).toInt32) → ((jfr h_13 263 r0) ≠ 0 ∧ jin x1 (jln h_13 (jfr h_13 263 r0)) ∧ ∀ h_17 : JH, h_17 = wai h_13 (jfr h_13 263 r0) (ixn x1) ((Int32.toInt8 ((Int32.toInt8 (jfi h_13 268 r2)).toInt32)).toInt32) → (∃ n, L_X12_put_45 D d Q n r0 r2 (0 : Int32) h_17))))))
theorem w_X12_put_0 {D : JD} {d : Nat} {Q : JO → JH → Prop} {r0 : Nat} {x1 : Int32} {r2 : Nat} {h : JH} (w : W_X12_put_0 D d Q r0 x1 r2 h) : JW D (d + 1) mX12_put 0 [some (vR 45 r0), some (vI x1), some (vR 46 r2), none] [] h Q := by
  unfold W_X12_put_0 at w
  refine jw_aload_n (pc' := 1) rfl rfl ?_
  obtain ⟨g_1, w⟩ := w
  refine jw_getR (pc' := 4) (F := 260) (t' := 192) rfl rfl rfl rfl rfl g_1 ?_
  refine jw_iload_n (pc' := 5) rfl rfl ?_
  refine jw_aload_n (pc' := 6) rfl rfl ?_
  obtain ⟨g_2, w⟩ := w
  refine jw_getI (pc' := 9) (F := 266) rfl rfl rfl rfl g_2 ?_
  refine jw_i2b (pc' := 10) rfl ?_
  obtain ⟨g_3, w⟩ := w
  obtain ⟨g_4, w⟩ := w
  refine jw_bast' (pc' := 11) rfl rfl rfl rfl rfl g_3 g_4 (fun h_5 e_6 => ?_)
  replace w := w h_5 e_6
  refine jw_aload_n (pc' := 12) rfl rfl ?_
  refine jw_getR (pc' := 15) (F := 261) (t' := 193) rfl rfl rfl rfl rfl g_1 ?_
  refine jw_iload_n (pc' := 16) rfl rfl ?_
  refine jw_aload_n (pc' := 17) rfl rfl ?_
  refine jw_getL (pc' := 20) (F := 267) rfl rfl rfl rfl g_2 ?_
  obtain ⟨g_7, w⟩ := w
  obtain ⟨g_8, w⟩ := w
  refine jw_last' (pc' := 21) rfl rfl rfl rfl rfl g_7 g_8 (fun h_9 e_10 => ?_)
  replace w := w h_9 e_10
  refine jw_aload_n (pc' := 22) rfl rfl ?_
  refine jw_getR (pc' := 25) (F := 262) (t' := 194) rfl rfl rfl rfl rfl g_1 ?_
  refine jw_iload_n (pc' := 26) rfl rfl ?_
  refine jw_aload_n (pc' := 27) rfl rfl ?_
  refine jw_getI (pc' := 30) (F := 265) rfl rfl rfl rfl g_1 ?_
  refine jw_i2s (pc' := 31) rfl ?_
  obtain ⟨g_11, w⟩ := w
  obtain ⟨g_12, w⟩ := w
  refine jw_sast' (pc' := 32) rfl rfl rfl rfl rfl g_11 g_12 (fun h_13 e_14 => ?_)
  replace w := w h_13 e_14
  refine jw_aload_n (pc' := 33) rfl rfl ?_
  refine jw_getR (pc' := 36) (F := 263) (t' := 195) rfl rfl rfl rfl rfl g_1 ?_
  refine jw_iload_n (pc' := 37) rfl rfl ?_
  refine jw_aload_n (pc' := 38) rfl rfl ?_
  refine jw_getI (pc' := 41) (F := 268) rfl rfl rfl rfl g_2 ?_
  refine jw_i2b (pc' := 42) rfl ?_
  obtain ⟨g_15, w⟩ := w
  obtain ⟨g_16, w⟩ := w
  refine jw_bast' (pc' := 43) rfl rfl rfl rfl rfl g_15 g_16 (fun h_17 e_18 => ?_)
  replace w := w h_17 e_18
  refine jw_iconst (pc' := 44) (x := (0 : Int32)) rfl rfl ?_
  refine jw_istore_n (pc' := 45) (ls' := [some (vR 45 r0), some (vI x1), some (vR 46 r2), some (vI (0 : Int32))]) rfl (by decide) rfl ?_
  refine jw_gen (ls' := [some (vR 45 r0), none, some (vR 46 r2), some (vI (0 : Int32))]) (st' := []) (And.intro (Or.inl rfl) (And.intro (Or.inl rfl) (And.intro (Or.inl rfl) (trivial)))) (trivial) ?_
  obtain ⟨n, w⟩ := w
  exact l_X12_put_45 n _ _ _ _ w
def T_X12_put (D : JD) (d : Nat) (Q : JO → JH → Prop) (r0 : Nat) (x1 : Int32) (r2 : Nat) (h : JH) : Prop := W_X12_put_0 D d Q r0 x1 r2 h
theorem t_X12_put {D : JD} {d : Nat} {Q : JO → JH → Prop} {r0 : Nat} {x1 : Int32} {r2 : Nat} {h : JH} (w : T_X12_put D d Q r0 x1 r2 h) : cX12_put D (d + 1) r0 x1 r2 h Q := by
  unfold T_X12_put at w
  unfold cX12_put
  exact w_X12_put_0 w
def W_X13_init_0 (D : JD) (d : Nat) (Q : JO → JH → Prop) (r0 : Nat) (h : JH) : Prop :=
  r0 ≠ 0 ∧ (Q (.inl none) h)
theorem w_X13_init_0 {D : JD} {d : Nat} {Q : JO → JH → Prop} {r0 : Nat} {h : JH} (w : W_X13_init_0 D d Q r0 h) : JW D (d + 1) mX13_init 0 [some (vR 46 r0)] [] h Q := by
  unfold W_X13_init_0 at w
  refine jw_aload_n (pc' := 1) rfl rfl ?_
  obtain ⟨g_1, w⟩ := w
  refine jw_obj (pc' := 4) rfl (lw_g (jtb_mem (c := 15) (i := 222) rfl) rfl) rfl g_1 ?_
  exact jw_return rfl rfl w
def T_X13_init (D : JD) (d : Nat) (Q : JO → JH → Prop) (r0 : Nat) (h : JH) : Prop := W_X13_init_0 D d Q r0 h
theorem t_X13_init {D : JD} {d : Nat} {Q : JO → JH → Prop} {r0 : Nat} {h : JH} (w : T_X13_init D d Q r0 h) : cX13_init D (d + 1) r0 h Q := by
  unfold T_X13_init at w
  unfold cX13_init
  exact w_X13_init_0 w
def W_X13_take_23 (D : JD) (d : Nat) (Q : JO → JH → Prop) (K23 : Nat → Nat → Int32 → JH → Prop) (r0 : Nat) (r1 : Nat) (x2 : Int32) (h : JH) : Prop :=
  r1 ≠ 0 ∧ (((jfi h 268 r1) ≤ x2 → Q (.inl none) h) ∧ (¬ (jfi h 268 r1) ≤ x2 → (jfr h 269 r1) ≠ 0 ∧ jin x2 (jln h (jfr h 269 r1)) ∧ (r0 ≠ 0 ∧ (cX13_put D d r0 (jai h (jfr h 269 r1) (ixn x2)) h (pV D h (fun h_6 => K23 r0 r1 (x2 + (1 : Int32)) h_6) (jth Q))))))
theorem w_X13_take_23 {D : JD} {d : Nat} {Q : JO → JH → Prop} {K23 : Nat → Nat → Int32 → JH → Prop} {r0 : Nat} {r1 : Nat} {x2 : Int32} {h : JH} (hK23 : ∀ (r0 : Nat) (r1 : Nat) (x2 : Int32) (h : JH), K23 r0 r1 x2 h → JW D (d + 1) mX13_take 23 [some (vR 46 r0), some (vR 46 r1), some (vI x2)] [] h Q) (w : W_X13_take_23 D d Q K23 r0 r1 x2 h) : JW D (d + 1) mX13_take 23 [some (vR 46 r0), some (vR 46 r1), some (vI x2)] [] h Q := by
  unfold W_X13_take_23 at w
  refine jw_iload_n (pc' := 24) rfl rfl ?_
  refine jw_aload_n (pc' := 25) rfl rfl ?_
  obtain ⟨g_1, w⟩ := w
  refine jw_getI (pc' := 28) (F := 268) rfl rfl rfl rfl g_1 ?_
  refine jw_icmp_ge (tgt := 47) (pc' := 31) rfl rfl (fun c_2 => ?_) (fun c_2 => ?_)
  · replace w := w.1 c_2
    exact jw_return rfl rfl w
  · replace w := w.2 c_2
    refine jw_aload_n (pc' := 32) rfl rfl ?_
    refine jw_aload_n (pc' := 33) rfl rfl ?_
    refine jw_getR (pc' := 36) (F := 269) (t' := 197) rfl rfl rfl rfl rfl g_1 ?_
    refine jw_iload_n (pc' := 37) rfl rfl ?_
    obtain ⟨g_3, w⟩ := w
    obtain ⟨g_4, w⟩ := w
    refine jw_bald (pc' := 38) rfl rfl rfl rfl g_3 g_4.ix g_4.2 ?_
    obtain ⟨g_5, w⟩ := w
    refine jw_cV (st := []) (sa := [vR 46 r0, vI (jai h (jfr h 269 r1) (ixn x2))]) okX13_put rfl rfl rfl rfl rfl rfl (jstp_virtual (sa := [vI (jai h (jfr h 269 r1) (ixn x2))]) (st := []) (k := 0) rfl rfl sX13_put okX13_put g_5 (one46.k g_5) rfl rfl) w (fun h_6 _ _ w => ?_)
    refine jw_iinc (pc' := 44) (y := x2 + (1 : Int32)) (ls' := [some (vR 46 r0), some (vR 46 r1), some (vI (x2 + (1 : Int32)))]) rfl (by decide) rfl rfl rfl ?_
    refine jw_goto (pc' := 23) rfl rfl ?_
    exact hK23 _ _ _ _ w
def L_X13_take_23 (D : JD) (d : Nat) (Q : JO → JH → Prop) : Nat → Nat → Nat → Int32 → JH → Prop
  | 0 => fun _ _ _ _ => False
  | n + 1 => fun r0 r1 x2 h => W_X13_take_23 D d Q (L_X13_take_23 D d Q n) r0 r1 x2 h
theorem l_X13_take_23 {D : JD} {d : Nat} {Q : JO → JH → Prop} : ∀ (n : Nat) (r0 : Nat) (r1 : Nat) (x2 : Int32) (h : JH), L_X13_take_23 D d Q n r0 r1 x2 h → JW D (d + 1) mX13_take 23 [some (vR 46 r0), some (vR 46 r1), some (vI x2)] [] h Q := by
  intro n
  induction n with
  | zero => intro _ _ _ _ w; exact w.elim
  | succ n ih => intro _ _ _ h w; exact w_X13_take_23 ih w
def W_X13_take_0 (D : JD) (d : Nat) (Q : JO → JH → Prop) (r0 : Nat) (r1 : Nat) (h : JH) : Prop :=
  r1 ≠ 0 ∧ (r0 ≠ 0 ∧ ∀ h_3 : JH, h_3 = wfi h 266 r0 (jfi h 266 r1) → (∀ h_5 : JH, h_5 = wfl h_3 267 r0 (jfl h_3 267 r1) → (∀ h_7 : JH, h_7 = wfi h_5 268 r0 (0 : Int32) → (∃ n, L_X13_take_23 D d Q n r0 r1 (0 : Int32) h_7))))
theorem w_X13_take_0 {D : JD} {d : Nat} {Q : JO → JH → Prop} {r0 : Nat} {r1 : Nat} {h : JH} (w : W_X13_take_0 D d Q r0 r1 h) : JW D (d + 1) mX13_take 0 [some (vR 46 r0), some (vR 46 r1), none] [] h Q := by
  unfold W_X13_take_0 at w
  refine jw_aload_n (pc' := 1) rfl rfl ?_
  refine jw_aload_n (pc' := 2) rfl rfl ?_
  obtain ⟨g_1, w⟩ := w
  refine jw_getI (pc' := 5) (F := 266) rfl rfl rfl rfl g_1 ?_
  obtain ⟨g_2, w⟩ := w
  refine jw_putI' (pc' := 8) (F := 266) rfl rfl rfl (Or.inr rfl) (Or.inl rfl) rfl (rfl) (rfl) rfl g_2 (fun h_3 e_4 => ?_)
  replace w := w h_3 e_4
  refine jw_aload_n (pc' := 9) rfl rfl ?_
  refine jw_aload_n (pc' := 10) rfl rfl ?_
  refine jw_getL (pc' := 13) (F := 267) rfl rfl rfl rfl g_1 ?_
  refine jw_putL' (pc' := 16) (F := 267) rfl rfl rfl (Or.inr rfl) (Or.inl rfl) rfl rfl rfl g_2 (fun h_5 e_6 => ?_)
  replace w := w h_5 e_6
  refine jw_aload_n (pc' := 17) rfl rfl ?_
  refine jw_iconst (pc' := 18) (x := (0 : Int32)) rfl rfl ?_
  refine jw_putI' (pc' := 21) (F := 268) rfl rfl rfl (Or.inr rfl) (Or.inl rfl) rfl (rfl) (rfl) rfl g_2 (fun h_7 e_8 => ?_)
  replace w := w h_7 e_8
  refine jw_iconst (pc' := 22) (x := (0 : Int32)) rfl rfl ?_
  refine jw_istore_n (pc' := 23) (ls' := [some (vR 46 r0), some (vR 46 r1), some (vI (0 : Int32))]) rfl (by decide) rfl ?_
  obtain ⟨n, w⟩ := w
  exact l_X13_take_23 n _ _ _ _ w
def T_X13_take (D : JD) (d : Nat) (Q : JO → JH → Prop) (r0 : Nat) (r1 : Nat) (h : JH) : Prop := W_X13_take_0 D d Q r0 r1 h
theorem t_X13_take {D : JD} {d : Nat} {Q : JO → JH → Prop} {r0 : Nat} {r1 : Nat} {h : JH} (w : T_X13_take D d Q r0 r1 h) : cX13_take D (d + 1) r0 r1 h Q := by
  unfold T_X13_take at w
  unfold cX13_take
  exact w_X13_take_0 w
def W_X13_put_15 (D : JD) (d : Nat) (Q : JO → JH → Prop) (r0 : Nat) (x1 : Int32) (h : JH) : Prop :=
  r0 ≠ 0 ∧ ((jfr h 269 r0) ≠ 0 ∧ jin (jfi h 268 r0) (jln h (jfr h 269 r0)) ∧ ∀ h_4 : JH, h_4 = wai h (jfr h 269 r0) (ixn (jfi h 268 r0)) ((Int32.toInt8 ((Int32.toInt8 x1).toInt32)).toInt32) → (∀ h_6 : JH, h_6 = wfi h_4 268 r0 ((jfi h_4 268 r0) + (1 : Int32)) → (Q (.inl none) h_6)))
theorem w_X13_put_15 {D : JD} {d : Nat} {Q : JO → JH → Prop} {r0 : Nat} {x1 : Int32} {h : JH} (w : W_X13_put_15 D d Q r0 x1 h) : JW D (d + 1) mX13_put 15 [some (vR 46 r0), some (vI x1)] [] h Q := by
  unfold W_X13_put_15 at w
  refine jw_aload_n (pc' := 16) rfl rfl ?_
  obtain ⟨g_1, w⟩ := w
  refine jw_getR (pc' := 19) (F := 269) (t' := 197) rfl rfl rfl rfl rfl g_1 ?_
  refine jw_aload_n (pc' := 20) rfl rfl ?_
  refine jw_getI (pc' := 23) (F := 268) rfl rfl rfl rfl g_1 ?_
  refine jw_iload_n (pc' := 24) rfl rfl ?_
  refine jw_i2b (pc' := 25) rfl ?_
  obtain ⟨g_2, w⟩ := w
  obtain ⟨g_3, w⟩ := w
  refine jw_bast' (pc' := 26) rfl rfl rfl rfl rfl g_2 g_3 (fun h_4 e_5 => ?_)
  replace w := w h_4 e_5
  refine jw_aload_n (pc' := 27) rfl rfl ?_
  refine jw_dup (pc' := 28) rfl rfl ?_
  refine jw_getI (pc' := 31) (F := 268) rfl rfl rfl rfl g_1 ?_
  refine jw_iconst (pc' := 32) (x := (1 : Int32)) rfl rfl ?_
  refine jw_iadd (pc' := 33) rfl ?_
  refine jw_putI' (pc' := 36) (F := 268) rfl rfl rfl (Or.inr rfl) (Or.inl rfl) rfl (rfl) (rfl) rfl g_1 (fun h_6 e_7 => ?_)
  replace w := w h_6 e_7
  exact jw_return rfl rfl w
def W_X13_put_0 (D : JD) (d : Nat) (Q : JO → JH → Prop) (r0 : Nat) (x1 : Int32) (h : JH) : Prop :=
  r0 ≠ 0 ∧ (((jfr h 269 r0) ≠ 0 → W_X13_put_15 D d Q r0 x1 h) ∧ ((jfr h 269 r0) = 0 → ∀ (r_3 : Nat) (h_4 : JH), r_3 = jsz h + 1 → h_4 = nwa h 197 40 → (∀ h_7 : JH, h_7 = wfr h_4 269 r0 r_3 → (W_X13_put_15 D d Q r0 x1 h_7))))
theorem w_X13_put_0 {D : JD} {d : Nat} {Q : JO → JH → Prop} {r0 : Nat} {x1 : Int32} {h : JH} (w : W_X13_put_0 D d Q r0 x1 h) : JW D (d + 1) mX13_put 0 [some (vR 46 r0), some (vI x1)] [] h Q := by
  unfold W_X13_put_0 at w
  refine jw_aload_n (pc' := 1) rfl rfl ?_
  obtain ⟨g_1, w⟩ := w
  refine jw_getR (pc' := 4) (F := 269) (t' := 197) rfl rfl rfl rfl rfl g_1 ?_
  refine jw_ifnonnull (tgt := 15) (pc' := 7) rfl rfl (fun c_2 => ?_) (fun c_2 => ?_)
  · replace w := w.1 c_2
    exact w_X13_put_15 w
  · replace w := w.2 c_2
    refine jw_aload_n (pc' := 8) rfl rfl ?_
    refine jw_bipush (pc' := 10) (x := (40 : Int32)) rfl rfl ?_
    refine jw_newa' (pc' := 12) (n := 40) (k := 197) rfl rfl rfl rfl rfl rfl (lw_g (jtb_mem (c := 1) (i := 105) rfl) rfl) ⟨by decide, rfl⟩ (by decide) (fun r_3 h_4 e_5 e_6 => ?_)
    replace w := w r_3 h_4 e_5 e_6
    refine jw_putR' (pc' := 15) (F := 269) rfl rfl rfl (Or.inr rfl) (Or.inl rfl) rfl rfl rfl g_1 (fun h_7 e_8 => ?_)
    replace w := w h_7 e_8
    exact w_X13_put_15 w
def T_X13_put (D : JD) (d : Nat) (Q : JO → JH → Prop) (r0 : Nat) (x1 : Int32) (h : JH) : Prop := W_X13_put_0 D d Q r0 x1 h
theorem t_X13_put {D : JD} {d : Nat} {Q : JO → JH → Prop} {r0 : Nat} {x1 : Int32} {h : JH} (w : T_X13_put D d Q r0 x1 h) : cX13_put D (d + 1) r0 x1 h Q := by
  unfold T_X13_put at w
  unfold cX13_put
  exact w_X13_put_0 w
def W_X45_init_0 (D : JD) (d : Nat) (Q : JO → JH → Prop) (r0 : Nat) (h : JH) : Prop :=
  r0 ≠ 0 ∧ (∀ (r_2 : Nat) (h_3 : JH), r_2 = jsz h + 1 → h_3 = nwa h 198 12 → (∀ h_6 : JH, h_6 = wfr h_3 272 r0 r_2 → (∀ (r_8 : Nat) (h_9 : JH), r_8 = jsz h_6 + 1 → h_9 = nwa h_6 199 10 → (∀ h_12 : JH, h_12 = wfr h_9 274 r0 r_8 → (∀ (r_14 : Nat) (h_15 : JH), r_14 = jsz h_12 + 1 → h_15 = nwa h_12 200 10 → (∀ h_18 : JH, h_18 = wfr h_15 275 r0 r_14 → (∀ (r_20 : Nat) (h_21 : JH), r_20 = jsz h_18 + 1 → h_21 = nwa h_18 201 10 → (∀ h_24 : JH, h_24 = wfr h_21 276 r0 r_20 → (∀ (r_26 : Nat) (h_27 : JH), r_26 = jsz h_24 + 1 → h_27 = nwa h_24 202 12 → (∀ h_30 : JH, h_30 = wfr h_27 278 r0 r_26 → (∀ (r_32 : Nat) (h_33 : JH), r_32 = jsz h_30 + 1 → h_33 = nwa h_30 203 20 → (∀ h_36 : JH, h_36 = wfr h_33 280 r0 r_32 → (∀ (r_38 : Nat) (h_39 : JH), r_38 = jsz h_36 + 1 → h_39 = nwa h_36 204 12 → (∀ h_42 : JH, h_42 = wfr h_39 284 r0 r_38 → (∀ (r_44 : Nat) (h_45 : JH), r_44 = jsz h_42 + 1 → h_45 = nwa h_42 205 3 → (∀ h_48 : JH, h_48 = wfr h_45 286 r0 r_44 → (∀ (r_50 : Nat) (h_51 : JH), r_50 = jsz h_48 + 1 → h_51 = nwa h_48 206 3 → (∀ h_54 : JH, h_54 = wfr h_51 287 r0 r_50 → (∀ (r_56 : Nat) (h_57 : JH), r_56 = jsz h_54 + 1 → h_57 = nwa h_54 207 3 → (∀ h_60 : JH, h_60 = wfr h_57 288 r0 r_56 → (∀ (r_62 : Nat) (h_63 : JH), r_62 = jsz h_60 + 1 → h_63 = nwa h_60 208 3 → (∀ h_66 : JH, h_66 = wfr h_63 289 r0 r_62 → (∀ (r_68 : Nat) (h_69 : JH), r_68 = jsz h_66 + 1 → h_69 = nwa h_66 209 8 → (∀ h_72 : JH, h_72 = wfr h_69 291 r0 r_68 → (∀ (r_74 : Nat) (h_75 : JH), r_74 = jsz h_72 + 1 → h_75 = nwa h_72 210 8 → (∀ h_78 : JH, h_78 = wfr h_75 294 r0 r_74 → (∀ (r_80 : Nat) (h_81 : JH), r_80 = jsz h_78 + 1 → h_81 = nwa h_78 211 8 → (∀ h_84 : JH, h_84 = wfr h_81 295 r0 r_80 → (∀ h_86 : JH, h_86 = wfl h_84 297 r0 (-1 : Int64) → (∀ (r_88 : Nat) (h_89 : JH), r_88 = jsz h_86 + 1 → h_89 = nwa h_86 212 31 → (∀ h_92 : JH, h_92 = wfr h_89 300 r0 r_88 → (∀ (r_94 : Nat) (h_95 : JH), r_94 = jsz h_92 + 1 → h_95 = nwa h_92 213 31 → (∀ h_98 : JH, h_98 = wfr h_95 301 r0 r_94 → (∀ (r_100 : Nat) (h_101 : JH), r_100 = jsz h_98 + 1 → h_101 = nwa h_98 214 8 → (∀ h_104 : JH, h_104 = wfr h_101 304 r0 r_100 → (Q (.inl none) h_104))))))))))))))))))))))))))))))))))))
theorem w_X45_init_0 {D : JD} {d : Nat} {Q : JO → JH → Prop} {r0 : Nat} {h : JH} (w : W_X45_init_0 D d Q r0 h) : JW D (d + 1) mX45_init 0 [some (vR 47 r0)] [] h Q := by
  unfold W_X45_init_0 at w
  refine jw_aload_n (pc' := 1) rfl rfl ?_
  obtain ⟨g_1, w⟩ := w
  refine jw_obj (pc' := 4) rfl (lw_g (jtb_mem (c := 18) (i := 47) rfl) rfl) rfl g_1 ?_
  refine jw_aload_n (pc' := 5) rfl rfl ?_
  refine jw_bipush (pc' := 7) (x := (12 : Int32)) rfl rfl ?_
  refine jw_anew' (pc' := 10) (n := 12) (k := 198) rfl rfl rfl rfl rfl rfl rfl (jtb_mem (c := 6) (i := 222) rfl) ⟨by decide, rfl⟩ rfl (fun r_2 h_3 e_4 e_5 => ?_)
  replace w := w r_2 h_3 e_4 e_5
  refine jw_putR' (pc' := 13) (F := 272) rfl rfl rfl (Or.inr rfl) (Or.inr ⟨rfl, rfl⟩) rfl rfl rfl g_1 (fun h_6 e_7 => ?_)
  replace w := w h_6 e_7
  refine jw_aload_n (pc' := 14) rfl rfl ?_
  refine jw_bipush (pc' := 16) (x := (10 : Int32)) rfl rfl ?_
  refine jw_newa' (pc' := 18) (n := 10) (k := 199) rfl rfl rfl rfl rfl rfl (lw_g (jtb_mem (c := 2) (i := 11) rfl) rfl) ⟨by decide, rfl⟩ (by decide) (fun r_8 h_9 e_10 e_11 => ?_)
  replace w := w r_8 h_9 e_10 e_11
  refine jw_putR' (pc' := 21) (F := 274) rfl rfl rfl (Or.inr rfl) (Or.inr ⟨rfl, rfl⟩) rfl rfl rfl g_1 (fun h_12 e_13 => ?_)
  replace w := w h_12 e_13
  refine jw_aload_n (pc' := 22) rfl rfl ?_
  refine jw_bipush (pc' := 24) (x := (10 : Int32)) rfl rfl ?_
  refine jw_newa' (pc' := 26) (n := 10) (k := 200) rfl rfl rfl rfl rfl rfl (lw_g (jtb_mem (c := 9) (i := 151) rfl) rfl) ⟨by decide, rfl⟩ (by decide) (fun r_14 h_15 e_16 e_17 => ?_)
  replace w := w r_14 h_15 e_16 e_17
  refine jw_putR' (pc' := 29) (F := 275) rfl rfl rfl (Or.inr rfl) (Or.inr ⟨rfl, rfl⟩) rfl rfl rfl g_1 (fun h_18 e_19 => ?_)
  replace w := w h_18 e_19
  refine jw_aload_n (pc' := 30) rfl rfl ?_
  refine jw_bipush (pc' := 32) (x := (10 : Int32)) rfl rfl ?_
  refine jw_newa' (pc' := 34) (n := 10) (k := 201) rfl rfl rfl rfl rfl rfl (lw_g (jtb_mem (c := 9) (i := 151) rfl) rfl) ⟨by decide, rfl⟩ (by decide) (fun r_20 h_21 e_22 e_23 => ?_)
  replace w := w r_20 h_21 e_22 e_23
  refine jw_putR' (pc' := 37) (F := 276) rfl rfl rfl (Or.inr rfl) (Or.inr ⟨rfl, rfl⟩) rfl rfl rfl g_1 (fun h_24 e_25 => ?_)
  replace w := w h_24 e_25
  refine jw_aload_n (pc' := 38) rfl rfl ?_
  refine jw_bipush (pc' := 40) (x := (12 : Int32)) rfl rfl ?_
  refine jw_anew' (pc' := 43) (n := 12) (k := 202) rfl rfl rfl rfl rfl rfl rfl (jtb_mem (c := 18) (i := 50) rfl) ⟨by decide, rfl⟩ rfl (fun r_26 h_27 e_28 e_29 => ?_)
  replace w := w r_26 h_27 e_28 e_29
  refine jw_putR' (pc' := 46) (F := 278) rfl rfl rfl (Or.inr rfl) (Or.inl rfl) rfl rfl rfl g_1 (fun h_30 e_31 => ?_)
  replace w := w h_30 e_31
  refine jw_aload_n (pc' := 47) rfl rfl ?_
  refine jw_bipush (pc' := 49) (x := (20 : Int32)) rfl rfl ?_
  refine jw_newa' (pc' := 51) (n := 20) (k := 203) rfl rfl rfl rfl rfl rfl (lw_g (jtb_mem (c := 2) (i := 11) rfl) rfl) ⟨by decide, rfl⟩ (by decide) (fun r_32 h_33 e_34 e_35 => ?_)
  replace w := w r_32 h_33 e_34 e_35
  refine jw_putR' (pc' := 54) (F := 280) rfl rfl rfl (Or.inr rfl) (Or.inr ⟨rfl, rfl⟩) rfl rfl rfl g_1 (fun h_36 e_37 => ?_)
  replace w := w h_36 e_37
  refine jw_aload_n (pc' := 55) rfl rfl ?_
  refine jw_bipush (pc' := 57) (x := (12 : Int32)) rfl rfl ?_
  refine jw_anew' (pc' := 60) (n := 12) (k := 204) rfl rfl rfl rfl rfl rfl rfl (jtb_mem (c := 18) (i := 50) rfl) ⟨by decide, rfl⟩ rfl (fun r_38 h_39 e_40 e_41 => ?_)
  replace w := w r_38 h_39 e_40 e_41
  refine jw_putR' (pc' := 63) (F := 284) rfl rfl rfl (Or.inr rfl) (Or.inr ⟨rfl, rfl⟩) rfl rfl rfl g_1 (fun h_42 e_43 => ?_)
  replace w := w h_42 e_43
  refine jw_aload_n (pc' := 64) rfl rfl ?_
  refine jw_iconst (pc' := 65) (x := (3 : Int32)) rfl rfl ?_
  refine jw_anew' (pc' := 68) (n := 3) (k := 205) rfl rfl rfl rfl rfl rfl rfl (jtb_mem (c := 6) (i := 222) rfl) ⟨by decide, rfl⟩ rfl (fun r_44 h_45 e_46 e_47 => ?_)
  replace w := w r_44 h_45 e_46 e_47
  refine jw_putR' (pc' := 71) (F := 286) rfl rfl rfl (Or.inr rfl) (Or.inr ⟨rfl, rfl⟩) rfl rfl rfl g_1 (fun h_48 e_49 => ?_)
  replace w := w h_48 e_49
  refine jw_aload_n (pc' := 72) rfl rfl ?_
  refine jw_iconst (pc' := 73) (x := (3 : Int32)) rfl rfl ?_
  refine jw_anew' (pc' := 76) (n := 3) (k := 206) rfl rfl rfl rfl rfl rfl rfl (jtb_mem (c := 6) (i := 222) rfl) ⟨by decide, rfl⟩ rfl (fun r_50 h_51 e_52 e_53 => ?_)
  replace w := w r_50 h_51 e_52 e_53
  refine jw_putR' (pc' := 79) (F := 287) rfl rfl rfl (Or.inr rfl) (Or.inr ⟨rfl, rfl⟩) rfl rfl rfl g_1 (fun h_54 e_55 => ?_)
  replace w := w h_54 e_55
  refine jw_aload_n (pc' := 80) rfl rfl ?_
  refine jw_iconst (pc' := 81) (x := (3 : Int32)) rfl rfl ?_
  refine jw_anew' (pc' := 84) (n := 3) (k := 207) rfl rfl rfl rfl rfl rfl rfl (jtb_mem (c := 18) (i := 50) rfl) ⟨by decide, rfl⟩ rfl (fun r_56 h_57 e_58 e_59 => ?_)
  replace w := w r_56 h_57 e_58 e_59
  refine jw_putR' (pc' := 87) (F := 288) rfl rfl rfl (Or.inr rfl) (Or.inr ⟨rfl, rfl⟩) rfl rfl rfl g_1 (fun h_60 e_61 => ?_)
  replace w := w h_60 e_61
  refine jw_aload_n (pc' := 88) rfl rfl ?_
  refine jw_iconst (pc' := 89) (x := (3 : Int32)) rfl rfl ?_
  refine jw_newa' (pc' := 91) (n := 3) (k := 208) rfl rfl rfl rfl rfl rfl (lw_g (jtb_mem (c := 9) (i := 151) rfl) rfl) ⟨by decide, rfl⟩ (by decide) (fun r_62 h_63 e_64 e_65 => ?_)
  replace w := w r_62 h_63 e_64 e_65
  refine jw_putR' (pc' := 94) (F := 289) rfl rfl rfl (Or.inr rfl) (Or.inr ⟨rfl, rfl⟩) rfl rfl rfl g_1 (fun h_66 e_67 => ?_)
  replace w := w h_66 e_67
  refine jw_aload_n (pc' := 95) rfl rfl ?_
  refine jw_bipush (pc' := 97) (x := (8 : Int32)) rfl rfl ?_
  refine jw_anew' (pc' := 100) (n := 8) (k := 209) rfl rfl rfl rfl rfl rfl rfl (jtb_mem (c := 18) (i := 50) rfl) ⟨by decide, rfl⟩ rfl (fun r_68 h_69 e_70 e_71 => ?_)
  replace w := w r_68 h_69 e_70 e_71
  refine jw_putR' (pc' := 103) (F := 291) rfl rfl rfl (Or.inr rfl) (Or.inr ⟨rfl, rfl⟩) rfl rfl rfl g_1 (fun h_72 e_73 => ?_)
  replace w := w h_72 e_73
  refine jw_aload_n (pc' := 104) rfl rfl ?_
  refine jw_bipush (pc' := 106) (x := (8 : Int32)) rfl rfl ?_
  refine jw_anew' (pc' := 109) (n := 8) (k := 210) rfl rfl rfl rfl rfl rfl rfl (jtb_mem (c := 18) (i := 50) rfl) ⟨by decide, rfl⟩ rfl (fun r_74 h_75 e_76 e_77 => ?_)
  replace w := w r_74 h_75 e_76 e_77
  refine jw_putR' (pc' := 112) (F := 294) rfl rfl rfl (Or.inr rfl) (Or.inr ⟨rfl, rfl⟩) rfl rfl rfl g_1 (fun h_78 e_79 => ?_)
  replace w := w h_78 e_79
  refine jw_aload_n (pc' := 113) rfl rfl ?_
  refine jw_bipush (pc' := 115) (x := (8 : Int32)) rfl rfl ?_
  refine jw_newa' (pc' := 117) (n := 8) (k := 211) rfl rfl rfl rfl rfl rfl (lw_g (jtb_mem (c := 9) (i := 151) rfl) rfl) ⟨by decide, rfl⟩ (by decide) (fun r_80 h_81 e_82 e_83 => ?_)
  replace w := w r_80 h_81 e_82 e_83
  refine jw_putR' (pc' := 120) (F := 295) rfl rfl rfl (Or.inr rfl) (Or.inr ⟨rfl, rfl⟩) rfl rfl rfl g_1 (fun h_84 e_85 => ?_)
  replace w := w h_84 e_85
  refine jw_aload_n (pc' := 121) rfl rfl ?_
  refine jw_ldc2 (pc' := 124) (v := (-1 : Int64)) rfl rfl ?_
  refine jw_putL' (pc' := 127) (F := 297) rfl rfl rfl (Or.inr rfl) (Or.inl rfl) rfl rfl rfl g_1 (fun h_86 e_87 => ?_)
  replace w := w h_86 e_87
  refine jw_aload_n (pc' := 128) rfl rfl ?_
  refine jw_bipush (pc' := 130) (x := (31 : Int32)) rfl rfl ?_
  refine jw_anew' (pc' := 133) (n := 31) (k := 212) rfl rfl rfl rfl rfl rfl rfl (jtb_mem (c := 18) (i := 50) rfl) ⟨by decide, rfl⟩ rfl (fun r_88 h_89 e_90 e_91 => ?_)
  replace w := w r_88 h_89 e_90 e_91
  refine jw_putR' (pc' := 136) (F := 300) rfl rfl rfl (Or.inr rfl) (Or.inr ⟨rfl, rfl⟩) rfl rfl rfl g_1 (fun h_92 e_93 => ?_)
  replace w := w h_92 e_93
  refine jw_aload_n (pc' := 137) rfl rfl ?_
  refine jw_bipush (pc' := 139) (x := (31 : Int32)) rfl rfl ?_
  refine jw_anew' (pc' := 142) (n := 31) (k := 213) rfl rfl rfl rfl rfl rfl rfl (jtb_mem (c := 6) (i := 222) rfl) ⟨by decide, rfl⟩ rfl (fun r_94 h_95 e_96 e_97 => ?_)
  replace w := w r_94 h_95 e_96 e_97
  refine jw_putR' (pc' := 145) (F := 301) rfl rfl rfl (Or.inr rfl) (Or.inr ⟨rfl, rfl⟩) rfl rfl rfl g_1 (fun h_98 e_99 => ?_)
  replace w := w h_98 e_99
  refine jw_aload_n (pc' := 146) rfl rfl ?_
  refine jw_bipush (pc' := 148) (x := (8 : Int32)) rfl rfl ?_
  refine jw_newa' (pc' := 150) (n := 8) (k := 214) rfl rfl rfl rfl rfl rfl (lw_g (jtb_mem (c := 2) (i := 11) rfl) rfl) ⟨by decide, rfl⟩ (by decide) (fun r_100 h_101 e_102 e_103 => ?_)
  replace w := w r_100 h_101 e_102 e_103
  refine jw_putR' (pc' := 153) (F := 304) rfl rfl rfl (Or.inr rfl) (Or.inr ⟨rfl, rfl⟩) rfl rfl rfl g_1 (fun h_104 e_105 => ?_)
  replace w := w h_104 e_105
  exact jw_return rfl rfl w
def T_X45_init (D : JD) (d : Nat) (Q : JO → JH → Prop) (r0 : Nat) (h : JH) : Prop := W_X45_init_0 D d Q r0 h
theorem t_X45_init {D : JD} {d : Nat} {Q : JO → JH → Prop} {r0 : Nat} {h : JH} (w : T_X45_init D d Q r0 h) : cX45_init D (d + 1) r0 h Q := by
  unfold T_X45_init at w
  unfold cX45_init
  exact w_X45_init_0 w
def W_X45_clear_165 (D : JD) (d : Nat) (Q : JO → JH → Prop) (K165 : Nat → Int32 → JH → Prop) (r0 : Nat) (x1 : Int32) (h : JH) : Prop :=
  ((8 : Int32) ≤ x1 → Q (.inl none) h) ∧ (¬ (8 : Int32) ≤ x1 → r0 ≠ 0 ∧ ((jfr h 295 r0) ≠ 0 ∧ jin x1 (jln h (jfr h 295 r0)) ∧ ∀ h_5 : JH, h_5 = wai h (jfr h 295 r0) (ixn x1) (0 : Int32) → (K165 r0 (x1 + (1 : Int32)) h_5)))
theorem w_X45_clear_165 {D : JD} {d : Nat} {Q : JO → JH → Prop} {K165 : Nat → Int32 → JH → Prop} {r0 : Nat} {x1 : Int32} {h : JH} (hK165 : ∀ (r0 : Nat) (x1 : Int32) (h : JH), K165 r0 x1 h → JW D (d + 1) mX45_clear 165 [some (vR 47 r0), some (vI x1)] [] h Q) (w : W_X45_clear_165 D d Q K165 r0 x1 h) : JW D (d + 1) mX45_clear 165 [some (vR 47 r0), some (vI x1)] [] h Q := by
  unfold W_X45_clear_165 at w
  refine jw_iload_n (pc' := 166) rfl rfl ?_
  refine jw_bipush (pc' := 168) (x := (8 : Int32)) rfl rfl ?_
  refine jw_icmp_ge (tgt := 184) (pc' := 171) rfl rfl (fun c_1 => ?_) (fun c_1 => ?_)
  · replace w := w.1 c_1
    exact jw_return rfl rfl w
  · replace w := w.2 c_1
    refine jw_aload_n (pc' := 172) rfl rfl ?_
    obtain ⟨g_2, w⟩ := w
    refine jw_getR (pc' := 175) (F := 295) (t' := 211) rfl rfl rfl rfl rfl g_2 ?_
    refine jw_iload_n (pc' := 176) rfl rfl ?_
    refine jw_iconst (pc' := 177) (x := (0 : Int32)) rfl rfl ?_
    obtain ⟨g_3, w⟩ := w
    obtain ⟨g_4, w⟩ := w
    refine jw_zast' (pc' := 178) rfl rfl rfl rfl rfl (rfl) g_3 g_4 (fun h_5 e_6 => ?_)
    replace w := w h_5 e_6
    refine jw_iinc (pc' := 181) (y := x1 + (1 : Int32)) (ls' := [some (vR 47 r0), some (vI (x1 + (1 : Int32)))]) rfl (by decide) rfl rfl rfl ?_
    refine jw_goto (pc' := 165) rfl rfl ?_
    exact hK165 _ _ _ w
def L_X45_clear_165 (D : JD) (d : Nat) (Q : JO → JH → Prop) : Nat → Nat → Int32 → JH → Prop
  | 0 => fun _ _ _ => False
  | n + 1 => fun r0 x1 h => W_X45_clear_165 D d Q (L_X45_clear_165 D d Q n) r0 x1 h
theorem l_X45_clear_165 {D : JD} {d : Nat} {Q : JO → JH → Prop} : ∀ (n : Nat) (r0 : Nat) (x1 : Int32) (h : JH), L_X45_clear_165 D d Q n r0 x1 h → JW D (d + 1) mX45_clear 165 [some (vR 47 r0), some (vI x1)] [] h Q := by
  intro n
  induction n with
  | zero => intro _ _ _ w; exact w.elim
  | succ n ih => intro _ _ h w; exact w_X45_clear_165 ih w
def W_X45_clear_138 (D : JD) (d : Nat) (Q : JO → JH → Prop) (K138 : Nat → Int32 → JH → Prop) (r0 : Nat) (x1 : Int32) (h : JH) : Prop :=
  ((3 : Int32) ≤ x1 → ∃ n, L_X45_clear_165 D d Q n r0 (0 : Int32) h) ∧ (¬ (3 : Int32) ≤ x1 → r0 ≠ 0 ∧ ((jfr h 288 r0) ≠ 0 ∧ jin x1 (jln h (jfr h 288 r0)) ∧ ∀ h_5 : JH, h_5 = war h (jfr h 288 r0) (ixn x1) 0 → ((jfr h_5 289 r0) ≠ 0 ∧ jin x1 (jln h_5 (jfr h_5 289 r0)) ∧ ∀ h_9 : JH, h_9 = wai h_5 (jfr h_5 289 r0) (ixn x1) (0 : Int32) → (K138 r0 (x1 + (1 : Int32)) h_9))))
theorem w_X45_clear_138 {D : JD} {d : Nat} {Q : JO → JH → Prop} {K138 : Nat → Int32 → JH → Prop} {r0 : Nat} {x1 : Int32} {h : JH} (hK138 : ∀ (r0 : Nat) (x1 : Int32) (h : JH), K138 r0 x1 h → JW D (d + 1) mX45_clear 138 [some (vR 47 r0), some (vI x1)] [] h Q) (w : W_X45_clear_138 D d Q K138 r0 x1 h) : JW D (d + 1) mX45_clear 138 [some (vR 47 r0), some (vI x1)] [] h Q := by
  unfold W_X45_clear_138 at w
  refine jw_iload_n (pc' := 139) rfl rfl ?_
  refine jw_iconst (pc' := 140) (x := (3 : Int32)) rfl rfl ?_
  refine jw_icmp_ge (tgt := 163) (pc' := 143) rfl rfl (fun c_1 => ?_) (fun c_1 => ?_)
  · replace w := w.1 c_1
    refine jw_iconst (pc' := 164) (x := (0 : Int32)) rfl rfl ?_
    refine jw_istore_n (pc' := 165) (ls' := [some (vR 47 r0), some (vI (0 : Int32))]) rfl (by decide) rfl ?_
    obtain ⟨n, w⟩ := w
    exact l_X45_clear_165 n _ _ _ w
  · replace w := w.2 c_1
    refine jw_aload_n (pc' := 144) rfl rfl ?_
    obtain ⟨g_2, w⟩ := w
    refine jw_getR (pc' := 147) (F := 288) (t' := 207) rfl rfl rfl rfl rfl g_2 ?_
    refine jw_iload_n (pc' := 148) rfl rfl ?_
    refine jw_null (pc' := 149) (t := 48) rfl ?_
    obtain ⟨g_3, w⟩ := w
    obtain ⟨g_4, w⟩ := w
    refine jw_aast' (pc' := 150) rfl rfl rfl rfl rfl rfl g_3 g_4 (fun h_5 e_6 => ?_)
    replace w := w h_5 e_6
    refine jw_aload_n (pc' := 151) rfl rfl ?_
    refine jw_getR (pc' := 154) (F := 289) (t' := 208) rfl rfl rfl rfl rfl g_2 ?_
    refine jw_iload_n (pc' := 155) rfl rfl ?_
    refine jw_iconst (pc' := 156) (x := (0 : Int32)) rfl rfl ?_
    obtain ⟨g_7, w⟩ := w
    obtain ⟨g_8, w⟩ := w
    refine jw_zast' (pc' := 157) rfl rfl rfl rfl rfl (rfl) g_7 g_8 (fun h_9 e_10 => ?_)
    replace w := w h_9 e_10
    refine jw_iinc (pc' := 160) (y := x1 + (1 : Int32)) (ls' := [some (vR 47 r0), some (vI (x1 + (1 : Int32)))]) rfl (by decide) rfl rfl rfl ?_
    refine jw_goto (pc' := 138) rfl rfl ?_
    exact hK138 _ _ _ w
def L_X45_clear_138 (D : JD) (d : Nat) (Q : JO → JH → Prop) : Nat → Nat → Int32 → JH → Prop
  | 0 => fun _ _ _ => False
  | n + 1 => fun r0 x1 h => W_X45_clear_138 D d Q (L_X45_clear_138 D d Q n) r0 x1 h
theorem l_X45_clear_138 {D : JD} {d : Nat} {Q : JO → JH → Prop} : ∀ (n : Nat) (r0 : Nat) (x1 : Int32) (h : JH), L_X45_clear_138 D d Q n r0 x1 h → JW D (d + 1) mX45_clear 138 [some (vR 47 r0), some (vI x1)] [] h Q := by
  intro n
  induction n with
  | zero => intro _ _ _ w; exact w.elim
  | succ n ih => intro _ _ h w; exact w_X45_clear_138 ih w
def W_X45_clear_110 (D : JD) (d : Nat) (Q : JO → JH → Prop) (K110 : Nat → Int32 → JH → Prop) (r0 : Nat) (x1 : Int32) (h : JH) : Prop :=
  ((10 : Int32) ≤ x1 → ∃ n, L_X45_clear_138 D d Q n r0 (0 : Int32) h) ∧ (¬ (10 : Int32) ≤ x1 → r0 ≠ 0 ∧ ((jfr h 275 r0) ≠ 0 ∧ jin x1 (jln h (jfr h 275 r0)) ∧ ∀ h_5 : JH, h_5 = wai h (jfr h 275 r0) (ixn x1) (0 : Int32) → ((jfr h_5 276 r0) ≠ 0 ∧ jin x1 (jln h_5 (jfr h_5 276 r0)) ∧ ∀ h_9 : JH, h_9 = wai h_5 (jfr h_5 276 r0) (ixn x1) (0 : Int32) → (K110 r0 (x1 + (1 : Int32)) h_9))))
theorem w_X45_clear_110 {D : JD} {d : Nat} {Q : JO → JH → Prop} {K110 : Nat → Int32 → JH → Prop} {r0 : Nat} {x1 : Int32} {h : JH} (hK110 : ∀ (r0 : Nat) (x1 : Int32) (h : JH), K110 r0 x1 h → JW D (d + 1) mX45_clear 110 [some (vR 47 r0), some (vI x1)] [] h Q) (w : W_X45_clear_110 D d Q K110 r0 x1 h) : JW D (d + 1) mX45_clear 110 [some (vR 47 r0), some (vI x1)] [] h Q := by
  unfold W_X45_clear_110 at w
  refine jw_iload_n (pc' := 111) rfl rfl ?_
  refine jw_bipush (pc' := 113) (x := (10 : Int32)) rfl rfl ?_
  refine jw_icmp_ge (tgt := 136) (pc' := 116) rfl rfl (fun c_1 => ?_) (fun c_1 => ?_)
  · replace w := w.1 c_1
    refine jw_iconst (pc' := 137) (x := (0 : Int32)) rfl rfl ?_
    refine jw_istore_n (pc' := 138) (ls' := [some (vR 47 r0), some (vI (0 : Int32))]) rfl (by decide) rfl ?_
    obtain ⟨n, w⟩ := w
    exact l_X45_clear_138 n _ _ _ w
  · replace w := w.2 c_1
    refine jw_aload_n (pc' := 117) rfl rfl ?_
    obtain ⟨g_2, w⟩ := w
    refine jw_getR (pc' := 120) (F := 275) (t' := 200) rfl rfl rfl rfl rfl g_2 ?_
    refine jw_iload_n (pc' := 121) rfl rfl ?_
    refine jw_iconst (pc' := 122) (x := (0 : Int32)) rfl rfl ?_
    obtain ⟨g_3, w⟩ := w
    obtain ⟨g_4, w⟩ := w
    refine jw_zast' (pc' := 123) rfl rfl rfl rfl rfl (rfl) g_3 g_4 (fun h_5 e_6 => ?_)
    replace w := w h_5 e_6
    refine jw_aload_n (pc' := 124) rfl rfl ?_
    refine jw_getR (pc' := 127) (F := 276) (t' := 201) rfl rfl rfl rfl rfl g_2 ?_
    refine jw_iload_n (pc' := 128) rfl rfl ?_
    refine jw_iconst (pc' := 129) (x := (0 : Int32)) rfl rfl ?_
    obtain ⟨g_7, w⟩ := w
    obtain ⟨g_8, w⟩ := w
    refine jw_zast' (pc' := 130) rfl rfl rfl rfl rfl (rfl) g_7 g_8 (fun h_9 e_10 => ?_)
    replace w := w h_9 e_10
    refine jw_iinc (pc' := 133) (y := x1 + (1 : Int32)) (ls' := [some (vR 47 r0), some (vI (x1 + (1 : Int32)))]) rfl (by decide) rfl rfl rfl ?_
    refine jw_goto (pc' := 110) rfl rfl ?_
    exact hK110 _ _ _ w
def L_X45_clear_110 (D : JD) (d : Nat) (Q : JO → JH → Prop) : Nat → Nat → Int32 → JH → Prop
  | 0 => fun _ _ _ => False
  | n + 1 => fun r0 x1 h => W_X45_clear_110 D d Q (L_X45_clear_110 D d Q n) r0 x1 h
theorem l_X45_clear_110 {D : JD} {d : Nat} {Q : JO → JH → Prop} : ∀ (n : Nat) (r0 : Nat) (x1 : Int32) (h : JH), L_X45_clear_110 D d Q n r0 x1 h → JW D (d + 1) mX45_clear 110 [some (vR 47 r0), some (vI x1)] [] h Q := by
  intro n
  induction n with
  | zero => intro _ _ _ w; exact w.elim
  | succ n ih => intro _ _ h w; exact w_X45_clear_110 ih w
def W_X45_clear_89 (D : JD) (d : Nat) (Q : JO → JH → Prop) (K89 : Nat → Int32 → JH → Prop) (r0 : Nat) (x1 : Int32) (h : JH) : Prop :=
  ((12 : Int32) ≤ x1 → ∃ n, L_X45_clear_110 D d Q n r0 (0 : Int32) h) ∧ (¬ (12 : Int32) ≤ x1 → r0 ≠ 0 ∧ ((jfr h 272 r0) ≠ 0 ∧ jin x1 (jln h (jfr h 272 r0)) ∧ ∀ h_5 : JH, h_5 = war h (jfr h 272 r0) (ixn x1) 0 → (K89 r0 (x1 + (1 : Int32)) h_5)))
theorem w_X45_clear_89 {D : JD} {d : Nat} {Q : JO → JH → Prop} {K89 : Nat → Int32 → JH → Prop} {r0 : Nat} {x1 : Int32} {h : JH} (hK89 : ∀ (r0 : Nat) (x1 : Int32) (h : JH), K89 r0 x1 h → JW D (d + 1) mX45_clear 89 [some (vR 47 r0), some (vI x1)] [] h Q) (w : W_X45_clear_89 D d Q K89 r0 x1 h) : JW D (d + 1) mX45_clear 89 [some (vR 47 r0), some (vI x1)] [] h Q := by
  unfold W_X45_clear_89 at w
  refine jw_iload_n (pc' := 90) rfl rfl ?_
  refine jw_bipush (pc' := 92) (x := (12 : Int32)) rfl rfl ?_
  refine jw_icmp_ge (tgt := 108) (pc' := 95) rfl rfl (fun c_1 => ?_) (fun c_1 => ?_)
  · replace w := w.1 c_1
    refine jw_iconst (pc' := 109) (x := (0 : Int32)) rfl rfl ?_
    refine jw_istore_n (pc' := 110) (ls' := [some (vR 47 r0), some (vI (0 : Int32))]) rfl (by decide) rfl ?_
    obtain ⟨n, w⟩ := w
    exact l_X45_clear_110 n _ _ _ w
  · replace w := w.2 c_1
    refine jw_aload_n (pc' := 96) rfl rfl ?_
    obtain ⟨g_2, w⟩ := w
    refine jw_getR (pc' := 99) (F := 272) (t' := 198) rfl rfl rfl rfl rfl g_2 ?_
    refine jw_iload_n (pc' := 100) rfl rfl ?_
    refine jw_null (pc' := 101) (t := 64) rfl ?_
    obtain ⟨g_3, w⟩ := w
    obtain ⟨g_4, w⟩ := w
    refine jw_aast' (pc' := 102) rfl rfl rfl rfl rfl rfl g_3 g_4 (fun h_5 e_6 => ?_)
    replace w := w h_5 e_6
    refine jw_iinc (pc' := 105) (y := x1 + (1 : Int32)) (ls' := [some (vR 47 r0), some (vI (x1 + (1 : Int32)))]) rfl (by decide) rfl rfl rfl ?_
    refine jw_goto (pc' := 89) rfl rfl ?_
    exact hK89 _ _ _ w
def L_X45_clear_89 (D : JD) (d : Nat) (Q : JO → JH → Prop) : Nat → Nat → Int32 → JH → Prop
  | 0 => fun _ _ _ => False
  | n + 1 => fun r0 x1 h => W_X45_clear_89 D d Q (L_X45_clear_89 D d Q n) r0 x1 h
theorem l_X45_clear_89 {D : JD} {d : Nat} {Q : JO → JH → Prop} : ∀ (n : Nat) (r0 : Nat) (x1 : Int32) (h : JH), L_X45_clear_89 D d Q n r0 x1 h → JW D (d + 1) mX45_clear 89 [some (vR 47 r0), some (vI x1)] [] h Q := by
  intro n
  induction n with
  | zero => intro _ _ _ w; exact w.elim
  | succ n ih => intro _ _ h w; exact w_X45_clear_89 ih w
def W_X45_clear_0 (D : JD) (d : Nat) (Q : JO → JH → Prop) (r0 : Nat) (h : JH) : Prop :=
  r0 ≠ 0 ∧ ∀ h_2 : JH, h_2 = wfr h 271 r0 0 → (∀ h_4 : JH, h_4 = wfi h_2 273 r0 (0 : Int32) → (∀ h_6 : JH, h_6 = wfi h_4 277 r0 (0 : Int32) → (∀ h_8 : JH, h_8 = wfi h_6 279 r0 (0 : Int32) → (∀ h_10 : JH, h_10 = wfi h_8 281 r0 (0 : Int32) → (∀ h_12 : JH, h_12 = wfr h_10 282 r0 0 → (∀ h_14 : JH, h_14 = wfi h_12 283 r0 (0 : Int32) → (∀ h_16 : JH, h_16 = wfi h_14 285 r0 (0 : Int32) → (∀ h_18 : JH, h_18 = wfi h_16 290 r0 (0 : Int32) → (∀ h_20 : JH, h_20 = wfi h_18 292 r0 (0 : Int32) → (∀ h_22 : JH, h_22 = wfr h_20 293 r0 0 → (∀ h_24 : JH, h_24 = wfi h_22 296 r0 (0 : Int32) → (∀ h_26 : JH, h_26 = wfl h_24 297 r0 (-1 : Int64) → (∀ h_28 : JH, h_28 = wfl h_26 298 r0 (0 : Int64) → (∀ h_30 : JH, h_30 = wfi h_28 299 r0 (0 : Int32) → (∀ h_32 : JH, h_32 = wfi h_30 302 r0 (0 : Int32) → (∀ h_34 : JH, h_34 = wfi h_32 303 r0 (0 : Int32) → (∃ n, L_X45_clear_89 D d Q n r0 (0 : Int32) h_34)))))))))))))))))
theorem w_X45_clear_0 {D : JD} {d : Nat} {Q : JO → JH → Prop} {r0 : Nat} {h : JH} (w : W_X45_clear_0 D d Q r0 h) : JW D (d + 1) mX45_clear 0 [some (vR 47 r0), none] [] h Q := by
  unfold W_X45_clear_0 at w
  refine jw_aload_n (pc' := 1) rfl rfl ?_
  refine jw_null (pc' := 2) (t := 64) rfl ?_
  obtain ⟨g_1, w⟩ := w
  refine jw_putR' (pc' := 5) (F := 271) rfl rfl rfl (Or.inr rfl) (Or.inl rfl) rfl rfl rfl g_1 (fun h_2 e_3 => ?_)
  replace w := w h_2 e_3
  refine jw_aload_n (pc' := 6) rfl rfl ?_
  refine jw_iconst (pc' := 7) (x := (0 : Int32)) rfl rfl ?_
  refine jw_putI' (pc' := 10) (F := 273) rfl rfl rfl (Or.inr rfl) (Or.inl rfl) rfl (rfl) (rfl) rfl g_1 (fun h_4 e_5 => ?_)
  replace w := w h_4 e_5
  refine jw_aload_n (pc' := 11) rfl rfl ?_
  refine jw_iconst (pc' := 12) (x := (0 : Int32)) rfl rfl ?_
  refine jw_putI' (pc' := 15) (F := 277) rfl rfl rfl (Or.inr rfl) (Or.inl rfl) rfl (rfl) (rfl) rfl g_1 (fun h_6 e_7 => ?_)
  replace w := w h_6 e_7
  refine jw_aload_n (pc' := 16) rfl rfl ?_
  refine jw_iconst (pc' := 17) (x := (0 : Int32)) rfl rfl ?_
  refine jw_putI' (pc' := 20) (F := 279) rfl rfl rfl (Or.inr rfl) (Or.inl rfl) rfl (rfl) (rfl) rfl g_1 (fun h_8 e_9 => ?_)
  replace w := w h_8 e_9
  refine jw_aload_n (pc' := 21) rfl rfl ?_
  refine jw_iconst (pc' := 22) (x := (0 : Int32)) rfl rfl ?_
  refine jw_putI' (pc' := 25) (F := 281) rfl rfl rfl (Or.inr rfl) (Or.inl rfl) rfl (rfl) (rfl) rfl g_1 (fun h_10 e_11 => ?_)
  replace w := w h_10 e_11
  refine jw_aload_n (pc' := 26) rfl rfl ?_
  refine jw_null (pc' := 27) (t := 48) rfl ?_
  refine jw_putR' (pc' := 30) (F := 282) rfl rfl rfl (Or.inr rfl) (Or.inl rfl) rfl rfl rfl g_1 (fun h_12 e_13 => ?_)
  replace w := w h_12 e_13
  refine jw_aload_n (pc' := 31) rfl rfl ?_
  refine jw_iconst (pc' := 32) (x := (0 : Int32)) rfl rfl ?_
  refine jw_putI' (pc' := 35) (F := 283) rfl rfl rfl (Or.inr rfl) (Or.inl rfl) rfl (rfl) (rfl) rfl g_1 (fun h_14 e_15 => ?_)
  replace w := w h_14 e_15
  refine jw_aload_n (pc' := 36) rfl rfl ?_
  refine jw_iconst (pc' := 37) (x := (0 : Int32)) rfl rfl ?_
  refine jw_putI' (pc' := 40) (F := 285) rfl rfl rfl (Or.inr rfl) (Or.inl rfl) rfl (rfl) (rfl) rfl g_1 (fun h_16 e_17 => ?_)
  replace w := w h_16 e_17
  refine jw_aload_n (pc' := 41) rfl rfl ?_
  refine jw_iconst (pc' := 42) (x := (0 : Int32)) rfl rfl ?_
  refine jw_putI' (pc' := 45) (F := 290) rfl rfl rfl (Or.inr rfl) (Or.inl rfl) rfl (rfl) (rfl) rfl g_1 (fun h_18 e_19 => ?_)
  replace w := w h_18 e_19
  refine jw_aload_n (pc' := 46) rfl rfl ?_
  refine jw_iconst (pc' := 47) (x := (0 : Int32)) rfl rfl ?_
  refine jw_putI' (pc' := 50) (F := 292) rfl rfl rfl (Or.inr rfl) (Or.inl rfl) rfl (rfl) (rfl) rfl g_1 (fun h_20 e_21 => ?_)
  replace w := w h_20 e_21
  refine jw_aload_n (pc' := 51) rfl rfl ?_
  refine jw_null (pc' := 52) (t := 48) rfl ?_
  refine jw_putR' (pc' := 55) (F := 293) rfl rfl rfl (Or.inr rfl) (Or.inl rfl) rfl rfl rfl g_1 (fun h_22 e_23 => ?_)
  replace w := w h_22 e_23
  refine jw_aload_n (pc' := 56) rfl rfl ?_
  refine jw_iconst (pc' := 57) (x := (0 : Int32)) rfl rfl ?_
  refine jw_putI' (pc' := 60) (F := 296) rfl rfl rfl (Or.inr rfl) (Or.inl rfl) rfl (rfl) (rfl) rfl g_1 (fun h_24 e_25 => ?_)
  replace w := w h_24 e_25
  refine jw_aload_n (pc' := 61) rfl rfl ?_
  refine jw_ldc2 (pc' := 64) (v := (-1 : Int64)) rfl rfl ?_
  refine jw_putL' (pc' := 67) (F := 297) rfl rfl rfl (Or.inr rfl) (Or.inl rfl) rfl rfl rfl g_1 (fun h_26 e_27 => ?_)
  replace w := w h_26 e_27
  refine jw_aload_n (pc' := 68) rfl rfl ?_
  refine jw_lconst (pc' := 69) (x := (0 : Int64)) rfl rfl ?_
  refine jw_putL' (pc' := 72) (F := 298) rfl rfl rfl (Or.inr rfl) (Or.inl rfl) rfl rfl rfl g_1 (fun h_28 e_29 => ?_)
  replace w := w h_28 e_29
  refine jw_aload_n (pc' := 73) rfl rfl ?_
  refine jw_iconst (pc' := 74) (x := (0 : Int32)) rfl rfl ?_
  refine jw_putI' (pc' := 77) (F := 299) rfl rfl rfl (Or.inr rfl) (Or.inl rfl) rfl (rfl) (rfl) rfl g_1 (fun h_30 e_31 => ?_)
  replace w := w h_30 e_31
  refine jw_aload_n (pc' := 78) rfl rfl ?_
  refine jw_iconst (pc' := 79) (x := (0 : Int32)) rfl rfl ?_
  refine jw_putI' (pc' := 82) (F := 302) rfl rfl rfl (Or.inr rfl) (Or.inl rfl) rfl (rfl) (rfl) rfl g_1 (fun h_32 e_33 => ?_)
  replace w := w h_32 e_33
  refine jw_aload_n (pc' := 83) rfl rfl ?_
  refine jw_iconst (pc' := 84) (x := (0 : Int32)) rfl rfl ?_
  refine jw_putI' (pc' := 87) (F := 303) rfl rfl rfl (Or.inr rfl) (Or.inl rfl) rfl (rfl) (rfl) rfl g_1 (fun h_34 e_35 => ?_)
  replace w := w h_34 e_35
  refine jw_iconst (pc' := 88) (x := (0 : Int32)) rfl rfl ?_
  refine jw_istore_n (pc' := 89) (ls' := [some (vR 47 r0), some (vI (0 : Int32))]) rfl (by decide) rfl ?_
  obtain ⟨n, w⟩ := w
  exact l_X45_clear_89 n _ _ _ w
def T_X45_clear (D : JD) (d : Nat) (Q : JO → JH → Prop) (r0 : Nat) (h : JH) : Prop := W_X45_clear_0 D d Q r0 h
theorem t_X45_clear {D : JD} {d : Nat} {Q : JO → JH → Prop} {r0 : Nat} {h : JH} (w : T_X45_clear D d Q r0 h) : cX45_clear D (d + 1) r0 h Q := by
  unfold T_X45_clear at w
  unfold cX45_clear
  exact w_X45_clear_0 w
def W_X45_add_52 (D : JD) (d : Nat) (Q : JO → JH → Prop) (r0 : Nat) (r1 : Nat) (h : JH) : Prop :=
  r0 ≠ 0 ∧ ((jfr h 278 r0) ≠ 0 ∧ jin (jfi h 279 r0) (jln h (jfr h 278 r0)) ∧ ∀ h_4 : JH, h_4 = war h (jfr h 278 r0) (ixn (jfi h 279 r0)) r1 → (∀ h_6 : JH, h_6 = wfi h_4 279 r0 ((jfi h_4 279 r0) + (1 : Int32)) → (Q (.inl none) h_6)))
theorem w_X45_add_52 {D : JD} {d : Nat} {Q : JO → JH → Prop} {r0 : Nat} {r1 : Nat} {h : JH} (w : W_X45_add_52 D d Q r0 r1 h) : JW D (d + 1) mX45_add 52 [some (vR 47 r0), some (vR 48 r1), none, none] [] h Q := by
  unfold W_X45_add_52 at w
  refine jw_aload_n (pc' := 53) rfl rfl ?_
  obtain ⟨g_1, w⟩ := w
  refine jw_getR (pc' := 56) (F := 278) (t' := 202) rfl rfl rfl rfl rfl g_1 ?_
  refine jw_aload_n (pc' := 57) rfl rfl ?_
  refine jw_getI (pc' := 60) (F := 279) rfl rfl rfl rfl g_1 ?_
  refine jw_aload_n (pc' := 61) rfl rfl ?_
  obtain ⟨g_2, w⟩ := w
  obtain ⟨g_3, w⟩ := w
  refine jw_aast' (pc' := 62) rfl rfl rfl rfl rfl rfl g_2 g_3 (fun h_4 e_5 => ?_)
  replace w := w h_4 e_5
  refine jw_aload_n (pc' := 63) rfl rfl ?_
  refine jw_dup (pc' := 64) rfl rfl ?_
  refine jw_getI (pc' := 67) (F := 279) rfl rfl rfl rfl g_1 ?_
  refine jw_iconst (pc' := 68) (x := (1 : Int32)) rfl rfl ?_
  refine jw_iadd (pc' := 69) rfl ?_
  refine jw_putI' (pc' := 72) (F := 279) rfl rfl rfl (Or.inr rfl) (Or.inl rfl) rfl (rfl) (rfl) rfl g_1 (fun h_6 e_7 => ?_)
  replace w := w h_6 e_7
  exact jw_return rfl rfl w
def W_X45_add_24 (D : JD) (d : Nat) (Q : JO → JH → Prop) (K24 : Nat → Nat → Nat → Int32 → JH → Prop) (r0 : Nat) (r1 : Nat) (r2 : Nat) (x3 : Int32) (h : JH) : Prop :=
  r0 ≠ 0 ∧ (((jfi h 279 r0) ≤ x3 → ∀ h_3 : JH, h_3 = wfr h 278 r0 r2 → (W_X45_add_52 D d Q r0 r1 h_3)) ∧ (¬ (jfi h 279 r0) ≤ x3 → (jfr h 278 r0) ≠ 0 ∧ jin x3 (jln h (jfr h 278 r0)) ∧ (r2 ≠ 0 ∧ jin x3 (jln h r2) ∧ ∀ h_9 : JH, h_9 = war h r2 (ixn x3) (jar h (jfr h 278 r0) (ixn x3)) → (K24 r0 r1 r2 (x3 + (1 : Int32)) h_9))))
theorem w_X45_add_24 {D : JD} {d : Nat} {Q : JO → JH → Prop} {K24 : Nat → Nat → Nat → Int32 → JH → Prop} {r0 : Nat} {r1 : Nat} {r2 : Nat} {x3 : Int32} {h : JH} (hK24 : ∀ (r0 : Nat) (r1 : Nat) (r2 : Nat) (x3 : Int32) (h : JH), K24 r0 r1 r2 x3 h → JW D (d + 1) mX45_add 24 [some (vR 47 r0), some (vR 48 r1), some (vR 202 r2), some (vI x3)] [] h Q) (w : W_X45_add_24 D d Q K24 r0 r1 r2 x3 h) : JW D (d + 1) mX45_add 24 [some (vR 47 r0), some (vR 48 r1), some (vR 202 r2), some (vI x3)] [] h Q := by
  unfold W_X45_add_24 at w
  refine jw_iload_n (pc' := 25) rfl rfl ?_
  refine jw_aload_n (pc' := 26) rfl rfl ?_
  obtain ⟨g_1, w⟩ := w
  refine jw_getI (pc' := 29) (F := 279) rfl rfl rfl rfl g_1 ?_
  refine jw_icmp_ge (tgt := 47) (pc' := 32) rfl rfl (fun c_2 => ?_) (fun c_2 => ?_)
  · replace w := w.1 c_2
    refine jw_aload_n (pc' := 48) rfl rfl ?_
    refine jw_aload_n (pc' := 49) rfl rfl ?_
    refine jw_putR' (pc' := 52) (F := 278) rfl rfl rfl (Or.inr rfl) (Or.inl rfl) rfl rfl rfl g_1 (fun h_3 e_4 => ?_)
    replace w := w h_3 e_4
    refine jw_gen (ls' := [some (vR 47 r0), some (vR 48 r1), none, none]) (st' := []) (And.intro (Or.inl rfl) (And.intro (Or.inl rfl) (trivial))) (trivial) ?_
    exact w_X45_add_52 w
  · replace w := w.2 c_2
    refine jw_aload_n (pc' := 33) rfl rfl ?_
    refine jw_iload_n (pc' := 34) rfl rfl ?_
    refine jw_aload_n (pc' := 35) rfl rfl ?_
    refine jw_getR (pc' := 38) (F := 278) (t' := 202) rfl rfl rfl rfl rfl g_1 ?_
    refine jw_iload_n (pc' := 39) rfl rfl ?_
    obtain ⟨g_5, w⟩ := w
    obtain ⟨g_6, w⟩ := w
    refine jw_aald (pc' := 40) (t' := 48) rfl rfl rfl rfl g_5 g_6.ix g_6.2 ?_
    obtain ⟨g_7, w⟩ := w
    obtain ⟨g_8, w⟩ := w
    refine jw_aast' (pc' := 41) rfl rfl rfl rfl rfl rfl g_7 g_8 (fun h_9 e_10 => ?_)
    replace w := w h_9 e_10
    refine jw_iinc (pc' := 44) (y := x3 + (1 : Int32)) (ls' := [some (vR 47 r0), some (vR 48 r1), some (vR 202 r2), some (vI (x3 + (1 : Int32)))]) rfl (by decide) rfl rfl rfl ?_
    refine jw_goto (pc' := 24) rfl rfl ?_
    exact hK24 _ _ _ _ _ w
def L_X45_add_24 (D : JD) (d : Nat) (Q : JO → JH → Prop) : Nat → Nat → Nat → Nat → Int32 → JH → Prop
  | 0 => fun _ _ _ _ _ => False
  | n + 1 => fun r0 r1 r2 x3 h => W_X45_add_24 D d Q (L_X45_add_24 D d Q n) r0 r1 r2 x3 h
theorem l_X45_add_24 {D : JD} {d : Nat} {Q : JO → JH → Prop} : ∀ (n : Nat) (r0 : Nat) (r1 : Nat) (r2 : Nat) (x3 : Int32) (h : JH), L_X45_add_24 D d Q n r0 r1 r2 x3 h → JW D (d + 1) mX45_add 24 [some (vR 47 r0), some (vR 48 r1), some (vR 202 r2), some (vI x3)] [] h Q := by
  intro n
  induction n with
  | zero => intro _ _ _ _ _ w; exact w.elim
  | succ n ih => intro _ _ _ _ h w; exact w_X45_add_24 ih w
def W_X45_add_0 (D : JD) (d : Nat) (Q : JO → JH → Prop) (r0 : Nat) (r1 : Nat) (h : JH) : Prop :=
  r0 ≠ 0 ∧ ((jfr h 278 r0) ≠ 0 ∧ ((¬ (jfi h 279 r0) = (nI (jln h (jfr h 278 r0))) → W_X45_add_52 D d Q r0 r1 h) ∧ ((jfi h 279 r0) = (nI (jln h (jfr h 278 r0))) → jsm ((2 : Int32) * (jfi h 279 r0)) ∧ ∀ (r_4 : Nat) (h_5 : JH), r_4 = jsz h + 1 → h_5 = nwa h 202 (ixn ((2 : Int32) * (jfi h 279 r0))) → (∃ n, L_X45_add_24 D d Q n r0 r1 r_4 (0 : Int32) h_5))))
theorem w_X45_add_0 {D : JD} {d : Nat} {Q : JO → JH → Prop} {r0 : Nat} {r1 : Nat} {h : JH} (w : W_X45_add_0 D d Q r0 r1 h) : JW D (d + 1) mX45_add 0 [some (vR 47 r0), some (vR 48 r1), none, none] [] h Q := by
  unfold W_X45_add_0 at w
  refine jw_aload_n (pc' := 1) rfl rfl ?_
  obtain ⟨g_1, w⟩ := w
  refine jw_getI (pc' := 4) (F := 279) rfl rfl rfl rfl g_1 ?_
  refine jw_aload_n (pc' := 5) rfl rfl ?_
  refine jw_getR (pc' := 8) (F := 278) (t' := 202) rfl rfl rfl rfl rfl g_1 ?_
  obtain ⟨g_2, w⟩ := w
  refine jw_alen (pc' := 9) rfl rfl g_2 ?_
  refine jw_icmp_ne (tgt := 52) (pc' := 12) rfl rfl (fun c_3 => ?_) (fun c_3 => ?_)
  · replace w := w.1 c_3
    exact w_X45_add_52 w
  · replace w := w.2 c_3
    refine jw_iconst (pc' := 13) (x := (2 : Int32)) rfl rfl ?_
    refine jw_aload_n (pc' := 14) rfl rfl ?_
    refine jw_getI (pc' := 17) (F := 279) rfl rfl rfl rfl g_1 ?_
    refine jw_imul (pc' := 18) rfl ?_
    obtain ⟨g_8, w⟩ := w
    refine jw_anew' (pc' := 21) (n := ixn ((2 : Int32) * (jfi h 279 r0))) (k := 202) rfl rfl rfl rfl rfl rfl rfl (jtb_mem (c := 18) (i := 50) rfl) g_8.ix g_8.b (fun r_4 h_5 e_6 e_7 => ?_)
    replace w := w r_4 h_5 e_6 e_7
    refine jw_astore_n (pc' := 22) (ls' := [some (vR 47 r0), some (vR 48 r1), some (vR 202 r_4), none]) rfl (by decide) rfl ?_
    refine jw_iconst (pc' := 23) (x := (0 : Int32)) rfl rfl ?_
    refine jw_istore_n (pc' := 24) (ls' := [some (vR 47 r0), some (vR 48 r1), some (vR 202 r_4), some (vI (0 : Int32))]) rfl (by decide) rfl ?_
    obtain ⟨n, w⟩ := w
    exact l_X45_add_24 n _ _ _ _ _ w
def T_X45_add (D : JD) (d : Nat) (Q : JO → JH → Prop) (r0 : Nat) (r1 : Nat) (h : JH) : Prop := W_X45_add_0 D d Q r0 r1 h
theorem t_X45_add {D : JD} {d : Nat} {Q : JO → JH → Prop} {r0 : Nat} {r1 : Nat} {h : JH} (w : T_X45_add D d Q r0 r1 h) : cX45_add D (d + 1) r0 r1 h Q := by
  unfold T_X45_add at w
  unfold cX45_add
  exact w_X45_add_0 w
def W_X46_init_0 (D : JD) (d : Nat) (Q : JO → JH → Prop) (r0 : Nat) (h : JH) : Prop :=
  r0 ≠ 0 ∧ (Q (.inl none) h)
theorem w_X46_init_0 {D : JD} {d : Nat} {Q : JO → JH → Prop} {r0 : Nat} {h : JH} (w : W_X46_init_0 D d Q r0 h) : JW D (d + 1) mX46_init 0 [some (vR 48 r0)] [] h Q := by
  unfold W_X46_init_0 at w
  refine jw_aload_n (pc' := 1) rfl rfl ?_
  obtain ⟨g_1, w⟩ := w
  refine jw_obj (pc' := 4) rfl (lw_g (jtb_mem (c := 19) (i := 46) rfl) rfl) rfl g_1 ?_
  exact jw_return rfl rfl w
def T_X46_init (D : JD) (d : Nat) (Q : JO → JH → Prop) (r0 : Nat) (h : JH) : Prop := W_X46_init_0 D d Q r0 h
theorem t_X46_init {D : JD} {d : Nat} {Q : JO → JH → Prop} {r0 : Nat} {h : JH} (w : T_X46_init D d Q r0 h) : cX46_init D (d + 1) r0 h Q := by
  unfold T_X46_init at w
  unfold cX46_init
  exact w_X46_init_0 w
def W_X46_add_67 (D : JD) (d : Nat) (Q : JO → JH → Prop) (r0 : Nat) (r1 : Nat) (h : JH) : Prop :=
  r0 ≠ 0 ∧ ((jfr h 310 r0) ≠ 0 ∧ jin (jfi h 311 r0) (jln h (jfr h 310 r0)) ∧ ∀ h_4 : JH, h_4 = war h (jfr h 310 r0) (ixn (jfi h 311 r0)) r1 → (∀ h_6 : JH, h_6 = wfi h_4 311 r0 ((jfi h_4 311 r0) + (1 : Int32)) → (Q (.inl none) h_6)))
theorem w_X46_add_67 {D : JD} {d : Nat} {Q : JO → JH → Prop} {r0 : Nat} {r1 : Nat} {h : JH} (w : W_X46_add_67 D d Q r0 r1 h) : JW D (d + 1) mX46_add 67 [some (vR 48 r0), some (vR 48 r1), none, none] [] h Q := by
  unfold W_X46_add_67 at w
  refine jw_aload_n (pc' := 68) rfl rfl ?_
  obtain ⟨g_1, w⟩ := w
  refine jw_getR (pc' := 71) (F := 310) (t' := 215) rfl rfl rfl rfl rfl g_1 ?_
  refine jw_aload_n (pc' := 72) rfl rfl ?_
  refine jw_getI (pc' := 75) (F := 311) rfl rfl rfl rfl g_1 ?_
  refine jw_aload_n (pc' := 76) rfl rfl ?_
  obtain ⟨g_2, w⟩ := w
  obtain ⟨g_3, w⟩ := w
  refine jw_aast' (pc' := 77) rfl rfl rfl rfl rfl rfl g_2 g_3 (fun h_4 e_5 => ?_)
  replace w := w h_4 e_5
  refine jw_aload_n (pc' := 78) rfl rfl ?_
  refine jw_dup (pc' := 79) rfl rfl ?_
  refine jw_getI (pc' := 82) (F := 311) rfl rfl rfl rfl g_1 ?_
  refine jw_iconst (pc' := 83) (x := (1 : Int32)) rfl rfl ?_
  refine jw_iadd (pc' := 84) rfl ?_
  refine jw_putI' (pc' := 87) (F := 311) rfl rfl rfl (Or.inr rfl) (Or.inl rfl) rfl (rfl) (rfl) rfl g_1 (fun h_6 e_7 => ?_)
  replace w := w h_6 e_7
  exact jw_return rfl rfl w
def W_X46_add_39 (D : JD) (d : Nat) (Q : JO → JH → Prop) (K39 : Nat → Nat → Nat → Int32 → JH → Prop) (r0 : Nat) (r1 : Nat) (r2 : Nat) (x3 : Int32) (h : JH) : Prop :=
  r0 ≠ 0 ∧ (((jfi h 311 r0) ≤ x3 → ∀ h_3 : JH, h_3 = wfr h 310 r0 r2 → (W_X46_add_67 D d Q r0 r1 h_3)) ∧ (¬ (jfi h 311 r0) ≤ x3 → (jfr h 310 r0) ≠ 0 ∧ jin x3 (jln h (jfr h 310 r0)) ∧ (r2 ≠ 0 ∧ jin x3 (jln h r2) ∧ ∀ h_9 : JH, h_9 = war h r2 (ixn x3) (jar h (jfr h 310 r0) (ixn x3)) → (K39 r0 r1 r2 (x3 + (1 : Int32)) h_9))))
theorem w_X46_add_39 {D : JD} {d : Nat} {Q : JO → JH → Prop} {K39 : Nat → Nat → Nat → Int32 → JH → Prop} {r0 : Nat} {r1 : Nat} {r2 : Nat} {x3 : Int32} {h : JH} (hK39 : ∀ (r0 : Nat) (r1 : Nat) (r2 : Nat) (x3 : Int32) (h : JH), K39 r0 r1 r2 x3 h → JW D (d + 1) mX46_add 39 [some (vR 48 r0), some (vR 48 r1), some (vR 215 r2), some (vI x3)] [] h Q) (w : W_X46_add_39 D d Q K39 r0 r1 r2 x3 h) : JW D (d + 1) mX46_add 39 [some (vR 48 r0), some (vR 48 r1), some (vR 215 r2), some (vI x3)] [] h Q := by
  unfold W_X46_add_39 at w
  refine jw_iload_n (pc' := 40) rfl rfl ?_
  refine jw_aload_n (pc' := 41) rfl rfl ?_
  obtain ⟨g_1, w⟩ := w
  refine jw_getI (pc' := 44) (F := 311) rfl rfl rfl rfl g_1 ?_
  refine jw_icmp_ge (tgt := 62) (pc' := 47) rfl rfl (fun c_2 => ?_) (fun c_2 => ?_)
  · replace w := w.1 c_2
    refine jw_aload_n (pc' := 63) rfl rfl ?_
    refine jw_aload_n (pc' := 64) rfl rfl ?_
    refine jw_putR' (pc' := 67) (F := 310) rfl rfl rfl (Or.inr rfl) (Or.inl rfl) rfl rfl rfl g_1 (fun h_3 e_4 => ?_)
    replace w := w h_3 e_4
    refine jw_gen (ls' := [some (vR 48 r0), some (vR 48 r1), none, none]) (st' := []) (And.intro (Or.inl rfl) (And.intro (Or.inl rfl) (trivial))) (trivial) ?_
    exact w_X46_add_67 w
  · replace w := w.2 c_2
    refine jw_aload_n (pc' := 48) rfl rfl ?_
    refine jw_iload_n (pc' := 49) rfl rfl ?_
    refine jw_aload_n (pc' := 50) rfl rfl ?_
    refine jw_getR (pc' := 53) (F := 310) (t' := 215) rfl rfl rfl rfl rfl g_1 ?_
    refine jw_iload_n (pc' := 54) rfl rfl ?_
    obtain ⟨g_5, w⟩ := w
    obtain ⟨g_6, w⟩ := w
    refine jw_aald (pc' := 55) (t' := 48) rfl rfl rfl rfl g_5 g_6.ix g_6.2 ?_
    obtain ⟨g_7, w⟩ := w
    obtain ⟨g_8, w⟩ := w
    refine jw_aast' (pc' := 56) rfl rfl rfl rfl rfl rfl g_7 g_8 (fun h_9 e_10 => ?_)
    replace w := w h_9 e_10
    refine jw_iinc (pc' := 59) (y := x3 + (1 : Int32)) (ls' := [some (vR 48 r0), some (vR 48 r1), some (vR 215 r2), some (vI (x3 + (1 : Int32)))]) rfl (by decide) rfl rfl rfl ?_
    refine jw_goto (pc' := 39) rfl rfl ?_
    exact hK39 _ _ _ _ _ w
def L_X46_add_39 (D : JD) (d : Nat) (Q : JO → JH → Prop) : Nat → Nat → Nat → Nat → Int32 → JH → Prop
  | 0 => fun _ _ _ _ _ => False
  | n + 1 => fun r0 r1 r2 x3 h => W_X46_add_39 D d Q (L_X46_add_39 D d Q n) r0 r1 r2 x3 h
theorem l_X46_add_39 {D : JD} {d : Nat} {Q : JO → JH → Prop} : ∀ (n : Nat) (r0 : Nat) (r1 : Nat) (r2 : Nat) (x3 : Int32) (h : JH), L_X46_add_39 D d Q n r0 r1 r2 x3 h → JW D (d + 1) mX46_add 39 [some (vR 48 r0), some (vR 48 r1), some (vR 215 r2), some (vI x3)] [] h Q := by
  intro n
  induction n with
  | zero => intro _ _ _ _ _ w; exact w.elim
  | succ n ih => intro _ _ _ _ h w; exact w_X46_add_39 ih w
def W_X46_add_15 (D : JD) (d : Nat) (Q : JO → JH → Prop) (r0 : Nat) (r1 : Nat) (h : JH) : Prop :=
  r0 ≠ 0 ∧ ((jfr h 310 r0) ≠ 0 ∧ ((¬ (jfi h 311 r0) = (nI (jln h (jfr h 310 r0))) → W_X46_add_67 D d Q r0 r1 h) ∧ ((jfi h 311 r0) = (nI (jln h (jfr h 310 r0))) → jsm ((2 : Int32) * (jfi h 311 r0)) ∧ ∀ (r_4 : Nat) (h_5 : JH), r_4 = jsz h + 1 → h_5 = nwa h 215 (ixn ((2 : Int32) * (jfi h 311 r0))) → (∃ n, L_X46_add_39 D d Q n r0 r1 r_4 (0 : Int32) h_5))))
theorem w_X46_add_15 {D : JD} {d : Nat} {Q : JO → JH → Prop} {r0 : Nat} {r1 : Nat} {h : JH} (w : W_X46_add_15 D d Q r0 r1 h) : JW D (d + 1) mX46_add 15 [some (vR 48 r0), some (vR 48 r1), none, none] [] h Q := by
  unfold W_X46_add_15 at w
  refine jw_aload_n (pc' := 16) rfl rfl ?_
  obtain ⟨g_1, w⟩ := w
  refine jw_getI (pc' := 19) (F := 311) rfl rfl rfl rfl g_1 ?_
  refine jw_aload_n (pc' := 20) rfl rfl ?_
  refine jw_getR (pc' := 23) (F := 310) (t' := 215) rfl rfl rfl rfl rfl g_1 ?_
  obtain ⟨g_2, w⟩ := w
  refine jw_alen (pc' := 24) rfl rfl g_2 ?_
  refine jw_icmp_ne (tgt := 67) (pc' := 27) rfl rfl (fun c_3 => ?_) (fun c_3 => ?_)
  · replace w := w.1 c_3
    exact w_X46_add_67 w
  · replace w := w.2 c_3
    refine jw_iconst (pc' := 28) (x := (2 : Int32)) rfl rfl ?_
    refine jw_aload_n (pc' := 29) rfl rfl ?_
    refine jw_getI (pc' := 32) (F := 311) rfl rfl rfl rfl g_1 ?_
    refine jw_imul (pc' := 33) rfl ?_
    obtain ⟨g_8, w⟩ := w
    refine jw_anew' (pc' := 36) (n := ixn ((2 : Int32) * (jfi h 311 r0))) (k := 215) rfl rfl rfl rfl rfl rfl rfl (jtb_mem (c := 18) (i := 50) rfl) g_8.ix g_8.b (fun r_4 h_5 e_6 e_7 => ?_)
    replace w := w r_4 h_5 e_6 e_7
    refine jw_astore_n (pc' := 37) (ls' := [some (vR 48 r0), some (vR 48 r1), some (vR 215 r_4), none]) rfl (by decide) rfl ?_
    refine jw_iconst (pc' := 38) (x := (0 : Int32)) rfl rfl ?_
    refine jw_istore_n (pc' := 39) (ls' := [some (vR 48 r0), some (vR 48 r1), some (vR 215 r_4), some (vI (0 : Int32))]) rfl (by decide) rfl ?_
    obtain ⟨n, w⟩ := w
    exact l_X46_add_39 n _ _ _ _ _ w
def W_X46_add_0 (D : JD) (d : Nat) (Q : JO → JH → Prop) (r0 : Nat) (r1 : Nat) (h : JH) : Prop :=
  r0 ≠ 0 ∧ (((jfr h 310 r0) ≠ 0 → W_X46_add_15 D d Q r0 r1 h) ∧ ((jfr h 310 r0) = 0 → ∀ (r_3 : Nat) (h_4 : JH), r_3 = jsz h + 1 → h_4 = nwa h 215 2 → (∀ h_7 : JH, h_7 = wfr h_4 310 r0 r_3 → (W_X46_add_15 D d Q r0 r1 h_7))))
theorem w_X46_add_0 {D : JD} {d : Nat} {Q : JO → JH → Prop} {r0 : Nat} {r1 : Nat} {h : JH} (w : W_X46_add_0 D d Q r0 r1 h) : JW D (d + 1) mX46_add 0 [some (vR 48 r0), some (vR 48 r1), none, none] [] h Q := by
  unfold W_X46_add_0 at w
  refine jw_aload_n (pc' := 1) rfl rfl ?_
  obtain ⟨g_1, w⟩ := w
  refine jw_getR (pc' := 4) (F := 310) (t' := 215) rfl rfl rfl rfl rfl g_1 ?_
  refine jw_ifnonnull (tgt := 15) (pc' := 7) rfl rfl (fun c_2 => ?_) (fun c_2 => ?_)
  · replace w := w.1 c_2
    exact w_X46_add_15 w
  · replace w := w.2 c_2
    refine jw_aload_n (pc' := 8) rfl rfl ?_
    refine jw_iconst (pc' := 9) (x := (2 : Int32)) rfl rfl ?_
    refine jw_anew' (pc' := 12) (n := 2) (k := 215) rfl rfl rfl rfl rfl rfl rfl (jtb_mem (c := 18) (i := 50) rfl) ⟨by decide, rfl⟩ rfl (fun r_3 h_4 e_5 e_6 => ?_)
    replace w := w r_3 h_4 e_5 e_6
    refine jw_putR' (pc' := 15) (F := 310) rfl rfl rfl (Or.inr rfl) (Or.inl rfl) rfl rfl rfl g_1 (fun h_7 e_8 => ?_)
    replace w := w h_7 e_8
    exact w_X46_add_15 w
def T_X46_add (D : JD) (d : Nat) (Q : JO → JH → Prop) (r0 : Nat) (r1 : Nat) (h : JH) : Prop := W_X46_add_0 D d Q r0 r1 h
theorem t_X46_add {D : JD} {d : Nat} {Q : JO → JH → Prop} {r0 : Nat} {r1 : Nat} {h : JH} (w : T_X46_add D d Q r0 r1 h) : cX46_add D (d + 1) r0 r1 h Q := by
  unfold T_X46_add at w
  unfold cX46_add
  exact w_X46_add_0 w
def W_X47_init_0 (D : JD) (d : Nat) (Q : JO → JH → Prop) (r0 : Nat) (h : JH) : Prop :=
  r0 ≠ 0 ∧ (∀ (r_2 : Nat) (h_3 : JH), r_2 = jsz h + 1 → h_3 = nwa h 216 16 → (∀ h_6 : JH, h_6 = wfr h_3 317 r0 r_2 → (Q (.inl none) h_6)))
theorem w_X47_init_0 {D : JD} {d : Nat} {Q : JO → JH → Prop} {r0 : Nat} {h : JH} (w : W_X47_init_0 D d Q r0 h) : JW D (d + 1) mX47_init 0 [some (vR 49 r0)] [] h Q := by
  unfold W_X47_init_0 at w
  refine jw_aload_n (pc' := 1) rfl rfl ?_
  obtain ⟨g_1, w⟩ := w
  refine jw_obj (pc' := 4) rfl (lw_g (jtb_mem (c := 21) (i := 52) rfl) rfl) rfl g_1 ?_
  refine jw_aload_n (pc' := 5) rfl rfl ?_
  refine jw_bipush (pc' := 7) (x := (16 : Int32)) rfl rfl ?_
  refine jw_newa' (pc' := 9) (n := 16) (k := 216) rfl rfl rfl rfl rfl rfl (lw_g (jtb_mem (c := 2) (i := 11) rfl) rfl) ⟨by decide, rfl⟩ (by decide) (fun r_2 h_3 e_4 e_5 => ?_)
  replace w := w r_2 h_3 e_4 e_5
  refine jw_putR' (pc' := 12) (F := 317) rfl rfl rfl (Or.inr rfl) (Or.inr ⟨rfl, rfl⟩) rfl rfl rfl g_1 (fun h_6 e_7 => ?_)
  replace w := w h_6 e_7
  exact jw_return rfl rfl w
def T_X47_init (D : JD) (d : Nat) (Q : JO → JH → Prop) (r0 : Nat) (h : JH) : Prop := W_X47_init_0 D d Q r0 h
theorem t_X47_init {D : JD} {d : Nat} {Q : JO → JH → Prop} {r0 : Nat} {h : JH} (w : T_X47_init D d Q r0 h) : cX47_init D (d + 1) r0 h Q := by
  unfold T_X47_init at w
  unfold cX47_init
  exact w_X47_init_0 w
def W_X48_init_34 (D : JD) (d : Nat) (Q : JO → JH → Prop) (K34 : Nat → Int32 → JH → Prop) (r0 : Nat) (x1 : Int32) (h : JH) : Prop :=
  ((16 : Int32) ≤ x1 → Q (.inl none) h) ∧ (¬ (16 : Int32) ≤ x1 → r0 ≠ 0 ∧ (∀ (r_3 : Nat) (h_4 : JH), r_3 = jsz h + 1 → h_4 = nwo h 109 4 → (cX13_init D d r_3 h_4 (pV D h_4 (fun h_7 => (jfr h 322 r0) ≠ 0 ∧ jin x1 (jln h_7 (jfr h 322 r0)) ∧ ∀ h_12 : JH, h_12 = war h_7 (jfr h 322 r0) (ixn x1) r_3 → (K34 r0 (x1 + (1 : Int32)) h_12)) (jth Q)))))
theorem w_X48_init_34 {D : JD} {d : Nat} {Q : JO → JH → Prop} {K34 : Nat → Int32 → JH → Prop} {r0 : Nat} {x1 : Int32} {h : JH} (hK34 : ∀ (r0 : Nat) (x1 : Int32) (h : JH), K34 r0 x1 h → JW D (d + 1) mX48_init 34 [some (vR 50 r0), some (vI x1)] [] h Q) (w : W_X48_init_34 D d Q K34 r0 x1 h) : JW D (d + 1) mX48_init 34 [some (vR 50 r0), some (vI x1)] [] h Q := by
  unfold W_X48_init_34 at w
  refine jw_iload_n (pc' := 35) rfl rfl ?_
  refine jw_bipush (pc' := 37) (x := (16 : Int32)) rfl rfl ?_
  refine jw_icmp_ge (tgt := 59) (pc' := 40) rfl rfl (fun c_1 => ?_) (fun c_1 => ?_)
  · replace w := w.1 c_1
    exact jw_return rfl rfl w
  · replace w := w.2 c_1
    refine jw_aload_n (pc' := 41) rfl rfl ?_
    obtain ⟨g_2, w⟩ := w
    refine jw_getR (pc' := 44) (F := 322) (t' := 218) rfl rfl rfl rfl rfl g_2 ?_
    refine jw_iload_n (pc' := 45) rfl rfl ?_
    refine jw_new' (pc' := 48) (k := 109) (n := 4) rfl rfl rfl rfl rfl rfl rfl (fun r_3 h_4 e_5 e_6 => ?_)
    replace w := w r_3 h_4 e_5 e_6
    refine jw_dup (pc' := 49) rfl rfl ?_
    refine jw_cV (st := [vR 109 r_3, vI x1, vR 218 (jfr h 322 r0)]) (sa := [vR 109 r_3]) okX13_init rfl rfl rfl rfl rfl rfl (jstp_init (sa := []) (st := [vR 109 r_3, vI x1, vR 218 (jfr h 322 r0)]) rfl rfl sX13_init okX13_init (lw_g (jtb_mem (c := 15) (i := 221) rfl) rfl) (jnz e_5) rfl rfl) w (fun h_7 _ _ w => ?_)
    obtain ⟨g_10, w⟩ := w
    obtain ⟨g_11, w⟩ := w
    refine jw_aast' (pc' := 53) rfl rfl rfl rfl rfl rfl g_10 g_11 (fun h_12 e_13 => ?_)
    replace w := w h_12 e_13
    refine jw_iinc (pc' := 56) (y := x1 + (1 : Int32)) (ls' := [some (vR 50 r0), some (vI (x1 + (1 : Int32)))]) rfl (by decide) rfl rfl rfl ?_
    refine jw_goto (pc' := 34) rfl rfl ?_
    exact hK34 _ _ _ w
def L_X48_init_34 (D : JD) (d : Nat) (Q : JO → JH → Prop) : Nat → Nat → Int32 → JH → Prop
  | 0 => fun _ _ _ => False
  | n + 1 => fun r0 x1 h => W_X48_init_34 D d Q (L_X48_init_34 D d Q n) r0 x1 h
theorem l_X48_init_34 {D : JD} {d : Nat} {Q : JO → JH → Prop} : ∀ (n : Nat) (r0 : Nat) (x1 : Int32) (h : JH), L_X48_init_34 D d Q n r0 x1 h → JW D (d + 1) mX48_init 34 [some (vR 50 r0), some (vI x1)] [] h Q := by
  intro n
  induction n with
  | zero => intro _ _ _ w; exact w.elim
  | succ n ih => intro _ _ h w; exact w_X48_init_34 ih w
def W_X48_init_0 (D : JD) (d : Nat) (Q : JO → JH → Prop) (r0 : Nat) (h : JH) : Prop :=
  r0 ≠ 0 ∧ (∀ (r_2 : Nat) (h_3 : JH), r_2 = jsz h + 1 → h_3 = nwa h 217 16 → (∀ h_6 : JH, h_6 = wfr h_3 321 r0 r_2 → (∀ (r_8 : Nat) (h_9 : JH), r_8 = jsz h_6 + 1 → h_9 = nwa h_6 218 16 → (∀ h_12 : JH, h_12 = wfr h_9 322 r0 r_8 → (∀ (r_14 : Nat) (h_15 : JH), r_14 = jsz h_12 + 1 → h_15 = nwo h_12 121 9 → (cX12_init D d r_14 h_15 (pV D h_15 (fun h_18 => ∀ h_21 : JH, h_21 = wfr h_18 325 r0 r_14 → (∃ n, L_X48_init_34 D d Q n r0 (0 : Int32) h_21)) (jth Q))))))))
theorem w_X48_init_0 {D : JD} {d : Nat} {Q : JO → JH → Prop} {r0 : Nat} {h : JH} (w : W_X48_init_0 D d Q r0 h) : JW D (d + 1) mX48_init 0 [some (vR 50 r0), none] [] h Q := by
  unfold W_X48_init_0 at w
  refine jw_aload_n (pc' := 1) rfl rfl ?_
  obtain ⟨g_1, w⟩ := w
  refine jw_obj (pc' := 4) rfl (lw_g (jtb_mem (c := 21) (i := 97) rfl) rfl) rfl g_1 ?_
  refine jw_aload_n (pc' := 5) rfl rfl ?_
  refine jw_bipush (pc' := 7) (x := (16 : Int32)) rfl rfl ?_
  refine jw_newa' (pc' := 9) (n := 16) (k := 217) rfl rfl rfl rfl rfl rfl (lw_g (jtb_mem (c := 2) (i := 11) rfl) rfl) ⟨by decide, rfl⟩ (by decide) (fun r_2 h_3 e_4 e_5 => ?_)
  replace w := w r_2 h_3 e_4 e_5
  refine jw_putR' (pc' := 12) (F := 321) rfl rfl rfl (Or.inr rfl) (Or.inr ⟨rfl, rfl⟩) rfl rfl rfl g_1 (fun h_6 e_7 => ?_)
  replace w := w h_6 e_7
  refine jw_aload_n (pc' := 13) rfl rfl ?_
  refine jw_bipush (pc' := 15) (x := (16 : Int32)) rfl rfl ?_
  refine jw_anew' (pc' := 18) (n := 16) (k := 218) rfl rfl rfl rfl rfl rfl rfl (jtb_mem (c := 15) (i := 100) rfl) ⟨by decide, rfl⟩ rfl (fun r_8 h_9 e_10 e_11 => ?_)
  replace w := w r_8 h_9 e_10 e_11
  refine jw_putR' (pc' := 21) (F := 322) rfl rfl rfl (Or.inr rfl) (Or.inr ⟨rfl, rfl⟩) rfl rfl rfl g_1 (fun h_12 e_13 => ?_)
  replace w := w h_12 e_13
  refine jw_aload_n (pc' := 22) rfl rfl ?_
  refine jw_new' (pc' := 25) (k := 121) (n := 9) rfl rfl rfl rfl rfl rfl rfl (fun r_14 h_15 e_16 e_17 => ?_)
  replace w := w r_14 h_15 e_16 e_17
  refine jw_dup (pc' := 26) rfl rfl ?_
  refine jw_cV (st := [vR 121 r_14, vR 50 r0]) (sa := [vR 121 r_14]) okX12_init rfl rfl rfl rfl rfl rfl (jstp_init (sa := []) (st := [vR 121 r_14, vR 50 r0]) rfl rfl sX12_init okX12_init (lw_g (jtb_mem (c := 15) (i := 178) rfl) rfl) (jnz e_16) rfl rfl) w (fun h_18 _ _ w => ?_)
  refine jw_putR' (pc' := 32) (F := 325) rfl rfl rfl (Or.inr rfl) (Or.inr ⟨rfl, rfl⟩) rfl rfl rfl g_1 (fun h_21 e_22 => ?_)
  replace w := w h_21 e_22
  refine jw_iconst (pc' := 33) (x := (0 : Int32)) rfl rfl ?_
  refine jw_istore_n (pc' := 34) (ls' := [some (vR 50 r0), some (vI (0 : Int32))]) rfl (by decide) rfl ?_
  obtain ⟨n, w⟩ := w
  exact l_X48_init_34 n _ _ _ w
def T_X48_init (D : JD) (d : Nat) (Q : JO → JH → Prop) (r0 : Nat) (h : JH) : Prop := W_X48_init_0 D d Q r0 h
theorem t_X48_init {D : JD} {d : Nat} {Q : JO → JH → Prop} {r0 : Nat} {h : JH} (w : T_X48_init D d Q r0 h) : cX48_init D (d + 1) r0 h Q := by
  unfold T_X48_init at w
  unfold cX48_init
  exact w_X48_init_0 w
def W_X8_thrown_0 (D : JD) (d : Nat) (Q : JO → JH → Prop) (r0 : Nat) (h : JH) : Prop :=
  r0 ≠ 0 ∧ (Q (.inl (some (vI (jfi h 236 r0)))) h)
theorem w_X8_thrown_0 {D : JD} {d : Nat} {Q : JO → JH → Prop} {r0 : Nat} {h : JH} (w : W_X8_thrown_0 D d Q r0 h) : JW D (d + 1) mX8_thrown 0 [some (vR 41 r0)] [] h Q := by
  unfold W_X8_thrown_0 at w
  refine jw_aload_n (pc' := 1) rfl rfl ?_
  obtain ⟨g_1, w⟩ := w
  refine jw_getI (pc' := 4) (F := 236) rfl rfl rfl rfl g_1 ?_
  exact jw_ireturn rfl rfl (rfl) w
def T_X8_thrown (D : JD) (d : Nat) (Q : JO → JH → Prop) (r0 : Nat) (h : JH) : Prop := W_X8_thrown_0 D d Q r0 h
theorem t_X8_thrown {D : JD} {d : Nat} {Q : JO → JH → Prop} {r0 : Nat} {h : JH} (w : T_X8_thrown D d Q r0 h) : cX8_thrown D (d + 1) r0 h Q := by
  unfold T_X8_thrown at w
  unfold cX8_thrown
  exact w_X8_thrown_0 w
def W_X8_init_336 (D : JD) (d : Nat) (Q : JO → JH → Prop) (K336 : Nat → Int32 → JH → Prop) (r0 : Nat) (x1 : Int32) (h : JH) : Prop :=
  ((16 : Int32) ≤ x1 → Q (.inl none) h) ∧ (¬ (16 : Int32) ≤ x1 → r0 ≠ 0 ∧ (∀ (r_3 : Nat) (h_4 : JH), r_3 = jsz h + 1 → h_4 = nwo h 108 4 → (cX13_init D d r_3 h_4 (pV D h_4 (fun h_7 => (jfr h 243 r0) ≠ 0 ∧ jin x1 (jln h_7 (jfr h 243 r0)) ∧ ∀ h_12 : JH, h_12 = war h_7 (jfr h 243 r0) (ixn x1) r_3 → (K336 r0 (x1 + (1 : Int32)) h_12)) (jth Q)))))
theorem w_X8_init_336 {D : JD} {d : Nat} {Q : JO → JH → Prop} {K336 : Nat → Int32 → JH → Prop} {r0 : Nat} {x1 : Int32} {h : JH} (hK336 : ∀ (r0 : Nat) (x1 : Int32) (h : JH), K336 r0 x1 h → JW D (d + 1) mX8_init 336 [some (vR 41 r0), some (vI x1)] [] h Q) (w : W_X8_init_336 D d Q K336 r0 x1 h) : JW D (d + 1) mX8_init 336 [some (vR 41 r0), some (vI x1)] [] h Q := by
  unfold W_X8_init_336 at w
  refine jw_iload_n (pc' := 337) rfl rfl ?_
  refine jw_bipush (pc' := 339) (x := (16 : Int32)) rfl rfl ?_
  refine jw_icmp_ge (tgt := 361) (pc' := 342) rfl rfl (fun c_1 => ?_) (fun c_1 => ?_)
  · replace w := w.1 c_1
    exact jw_return rfl rfl w
  · replace w := w.2 c_1
    refine jw_aload_n (pc' := 343) rfl rfl ?_
    obtain ⟨g_2, w⟩ := w
    refine jw_getR (pc' := 346) (F := 243) (t' := 185) rfl rfl rfl rfl rfl g_2 ?_
    refine jw_iload_n (pc' := 347) rfl rfl ?_
    refine jw_new' (pc' := 350) (k := 108) (n := 4) rfl rfl rfl rfl rfl rfl rfl (fun r_3 h_4 e_5 e_6 => ?_)
    replace w := w r_3 h_4 e_5 e_6
    refine jw_dup (pc' := 351) rfl rfl ?_
    refine jw_cV (st := [vR 108 r_3, vI x1, vR 185 (jfr h 243 r0)]) (sa := [vR 108 r_3]) okX13_init rfl rfl rfl rfl rfl rfl (jstp_init (sa := []) (st := [vR 108 r_3, vI x1, vR 185 (jfr h 243 r0)]) rfl rfl sX13_init okX13_init (lw_g (jtb_mem (c := 15) (i := 221) rfl) rfl) (jnz e_5) rfl rfl) w (fun h_7 _ _ w => ?_)
    obtain ⟨g_10, w⟩ := w
    obtain ⟨g_11, w⟩ := w
    refine jw_aast' (pc' := 355) rfl rfl rfl rfl rfl rfl g_10 g_11 (fun h_12 e_13 => ?_)
    replace w := w h_12 e_13
    refine jw_iinc (pc' := 358) (y := x1 + (1 : Int32)) (ls' := [some (vR 41 r0), some (vI (x1 + (1 : Int32)))]) rfl (by decide) rfl rfl rfl ?_
    refine jw_goto (pc' := 336) rfl rfl ?_
    exact hK336 _ _ _ w
def L_X8_init_336 (D : JD) (d : Nat) (Q : JO → JH → Prop) : Nat → Nat → Int32 → JH → Prop
  | 0 => fun _ _ _ => False
  | n + 1 => fun r0 x1 h => W_X8_init_336 D d Q (L_X8_init_336 D d Q n) r0 x1 h
theorem l_X8_init_336 {D : JD} {d : Nat} {Q : JO → JH → Prop} : ∀ (n : Nat) (r0 : Nat) (x1 : Int32) (h : JH), L_X8_init_336 D d Q n r0 x1 h → JW D (d + 1) mX8_init 336 [some (vR 41 r0), some (vI x1)] [] h Q := by
  intro n
  induction n with
  | zero => intro _ _ _ w; exact w.elim
  | succ n ih => intro _ _ h w; exact w_X8_init_336 ih w
def W_X8_init_0 (D : JD) (d : Nat) (Q : JO → JH → Prop) (r0 : Nat) (h : JH) : Prop :=
  r0 ≠ 0 ∧ (∀ (r_2 : Nat) (h_3 : JH), r_2 = jsz h + 1 → h_3 = nwo h 42 8 → (cX9_init D d r_2 h_3 (pV D h_3 (fun h_6 => ∀ h_9 : JH, h_9 = wfr h_6 175 r0 r_2 → (∀ (r_11 : Nat) (h_12 : JH), r_11 = jsz h_9 + 1 → h_12 = nwa h_9 163 64 → (∀ h_15 : JH, h_15 = wfr h_12 176 r0 r_11 → (∀ (r_17 : Nat) (h_18 : JH), r_17 = jsz h_15 + 1 → h_18 = nwo h_15 116 2 → (cX10_init D d r_17 h_18 (pV D h_18 (fun h_21 => ∀ h_24 : JH, h_24 = wfr h_21 178 r0 r_17 → (∀ (r_26 : Nat) (h_27 : JH), r_26 = jsz h_24 + 1 → h_27 = nwo h_24 117 2 → (cX10_init D d r_26 h_27 (pV D h_27 (fun h_30 => ∀ h_33 : JH, h_33 = wfr h_30 179 r0 r_26 → (∀ (r_35 : Nat) (h_36 : JH), r_35 = jsz h_33 + 1 → h_36 = nwo h_33 119 8 → (cX11_init D d r_35 h_36 (pV D h_36 (fun h_39 => ∀ h_42 : JH, h_42 = wfr h_39 180 r0 r_35 → (∀ (r_44 : Nat) (h_45 : JH), r_44 = jsz h_42 + 1 → h_45 = nwa h_42 164 64 → (∀ h_48 : JH, h_48 = wfr h_45 181 r0 r_44 → (∀ (r_50 : Nat) (h_51 : JH), r_50 = jsz h_48 + 1 → h_51 = nwa h_48 165 400 → (∀ h_54 : JH, h_54 = wfr h_51 192 r0 r_50 → (∀ (r_56 : Nat) (h_57 : JH), r_56 = jsz h_54 + 1 → h_57 = nwa h_54 166 400 → (∀ h_60 : JH, h_60 = wfr h_57 193 r0 r_56 → (∀ (r_62 : Nat) (h_63 : JH), r_62 = jsz h_60 + 1 → h_63 = nwa h_60 83 6 → (jin (0 : Int32) (jln h_63 r_62) ∧ ∀ h_67 : JH, h_67 = war h_63 r_62 (ixn (0 : Int32)) (jcs D 219) → (jin (1 : Int32) (jln h_67 r_62) ∧ ∀ h_70 : JH, h_70 = war h_67 r_62 (ixn (1 : Int32)) (jcs D 220) → (jin (2 : Int32) (jln h_70 r_62) ∧ ∀ h_73 : JH, h_73 = war h_70 r_62 (ixn (2 : Int32)) (jcs D 221) → (jin (3 : Int32) (jln h_73 r_62) ∧ ∀ h_76 : JH, h_76 = war h_73 r_62 (ixn (3 : Int32)) (jcs D 222) → (jin (4 : Int32) (jln h_76 r_62) ∧ ∀ h_79 : JH, h_79 = war h_76 r_62 (ixn (4 : Int32)) (jcs D 223) → (jin (5 : Int32) (jln h_79 r_62) ∧ ∀ h_82 : JH, h_82 = war h_79 r_62 (ixn (5 : Int32)) (jcs D 224) → (∀ h_84 : JH, h_84 = wfr h_82 195 r0 r_62 → (∀ (r_86 : Nat) (h_87 : JH), r_86 = jsz h_84 + 1 → h_87 = nwa h_84 167 3 → (∀ h_90 : JH, h_90 = wfr h_87 200 r0 r_86 → (∀ (r_92 : Nat) (h_93 : JH), r_92 = jsz h_90 + 1 → h_93 = nwa h_90 168 3 → (∀ h_96 : JH, h_96 = wfr h_93 204 r0 r_92 → (∀ (r_98 : Nat) (h_99 : JH), r_98 = jsz h_96 + 1 → h_99 = nwa h_96 169 41 → (∀ h_102 : JH, h_102 = wfr h_99 207 r0 r_98 → (∀ (r_104 : Nat) (h_105 : JH), r_104 = jsz h_102 + 1 → h_105 = nwa h_102 170 96 → (∀ h_108 : JH, h_108 = wfr h_105 208 r0 r_104 → (∀ (r_110 : Nat) (h_111 : JH), r_110 = jsz h_108 + 1 → h_111 = nwa h_108 171 32 → (∀ h_114 : JH, h_114 = wfr h_111 210 r0 r_110 → (∀ (r_116 : Nat) (h_117 : JH), r_116 = jsz h_114 + 1 → h_117 = nwa h_114 172 64 → (∀ h_120 : JH, h_120 = wfr h_117 212 r0 r_116 → (∀ (r_122 : Nat) (h_123 : JH), r_122 = jsz h_120 + 1 → h_123 = nwa h_120 172 64 → (∀ h_126 : JH, h_126 = wfr h_123 213 r0 r_122 → (∀ (r_128 : Nat) (h_129 : JH), r_128 = jsz h_126 + 1 → h_129 = nwa h_126 173 32 → (∀ h_132 : JH, h_132 = wfr h_129 214 r0 r_128 → (∀ (r_134 : Nat) (h_135 : JH), r_134 = jsz h_132 + 1 → h_135 = nwa h_132 174 8 → (∀ h_138 : JH, h_138 = wfr h_135 216 r0 r_134 → (∀ (r_140 : Nat) (h_141 : JH), r_140 = jsz h_138 + 1 → h_141 = nwa h_138 175 3200 → (∀ h_144 : JH, h_144 = wfr h_141 217 r0 r_140 → (∀ (r_146 : Nat) (h_147 : JH), r_146 = jsz h_144 + 1 → h_147 = nwa h_144 176 401 → (∀ h_150 : JH, h_150 = wfr h_147 218 r0 r_146 → (∀ (r_152 : Nat) (h_153 : JH), r_152 = jsz h_150 + 1 → h_153 = nwa h_150 177 401 → (∀ h_156 : JH, h_156 = wfr h_153 219 r0 r_152 → (∀ (r_158 : Nat) (h_159 : JH), r_158 = jsz h_156 + 1 → h_159 = jmh h_156 20 10 20 → (∀ h_162 : JH, h_162 = wfr h_159 221 r0 r_158 → (∀ (r_164 : Nat) (h_165 : JH), r_164 = jsz h_162 + 1 → h_165 = nwa h_162 178 2000 → (∀ h_168 : JH, h_168 = wfr h_165 222 r0 r_164 → (∀ (r_170 : Nat) (h_171 : JH), r_170 = jsz h_168 + 1 → h_171 = nwa h_168 179 8192 → (∀ h_174 : JH, h_174 = wfr h_171 224 r0 r_170 → (∀ (r_176 : Nat) (h_177 : JH), r_176 = jsz h_174 + 1 → h_177 = nwa h_174 180 256 → (∀ h_180 : JH, h_180 = wfr h_177 226 r0 r_176 → (∀ (r_182 : Nat) (h_183 : JH), r_182 = jsz h_180 + 1 → h_183 = nwa h_180 181 10 → (∀ h_186 : JH, h_186 = wfr h_183 231 r0 r_182 → (∀ (r_188 : Nat) (h_189 : JH), r_188 = jsz h_186 + 1 → h_189 = nwa h_186 182 10 → (∀ h_192 : JH, h_192 = wfr h_189 233 r0 r_188 → (∀ (r_194 : Nat) (h_195 : JH), r_194 = jsz h_192 + 1 → h_195 = nwo h_192 120 9 → (cX12_init D d r_194 h_195 (pV D h_195 (fun h_198 => ∀ h_201 : JH, h_201 = wfr h_198 235 r0 r_194 → (∀ (r_203 : Nat) (h_204 : JH), r_203 = jsz h_201 + 1 → h_204 = nwa h_201 183 20 → (∀ h_207 : JH, h_207 = wfr h_204 241 r0 r_203 → (∀ (r_209 : Nat) (h_210 : JH), r_209 = jsz h_207 + 1 → h_210 = nwa h_207 184 16 → (∀ h_213 : JH, h_213 = wfr h_210 242 r0 r_209 → (∀ (r_215 : Nat) (h_216 : JH), r_215 = jsz h_213 + 1 → h_216 = nwa h_213 185 16 → (∀ h_219 : JH, h_219 = wfr h_216 243 r0 r_215 → (∀ (r_221 : Nat) (h_222 : JH), r_221 = jsz h_219 + 1 → h_222 = nwa h_219 186 16 → (∀ h_225 : JH, h_225 = wfr h_222 244 r0 r_221 → (∃ n, L_X8_init_336 D d Q n r0 (0 : Int32) h_225)))))))))) (jth Q))))))))))))))))))))))))))))))))))))))))))))))))))))))) (jth Q))))) (jth Q))))) (jth Q))))))) (jth Q))))
theorem w_X8_init_0 {D : JD} {d : Nat} {Q : JO → JH → Prop} {r0 : Nat} {h : JH} (w : W_X8_init_0 D d Q r0 h) : JW D (d + 1) mX8_init 0 [some (vR 41 r0), none] [] h Q := by
  unfold W_X8_init_0 at w
  refine jw_aload_n (pc' := 1) rfl rfl ?_
  obtain ⟨g_1, w⟩ := w
  refine jw_obj (pc' := 4) rfl (lw_g (jtb_mem (c := 15) (i := 69) rfl) rfl) rfl g_1 ?_
  refine jw_aload_n (pc' := 5) rfl rfl ?_
  refine jw_new' (pc' := 8) (k := 42) (n := 8) rfl rfl rfl rfl rfl rfl rfl (fun r_2 h_3 e_4 e_5 => ?_)
  replace w := w r_2 h_3 e_4 e_5
  refine jw_dup (pc' := 9) rfl rfl ?_
  refine jw_cV (st := [vR 42 r_2, vR 41 r0]) (sa := [vR 42 r_2]) okX9_init rfl rfl rfl rfl rfl rfl (jstp_init (sa := []) (st := [vR 42 r_2, vR 41 r0]) rfl rfl sX9_init okX9_init (lw_g (jtb_mem (c := 15) (i := 81) rfl) rfl) (jnz e_4) rfl rfl) w (fun h_6 _ _ w => ?_)
  refine jw_putR' (pc' := 15) (F := 175) rfl rfl rfl (Or.inr rfl) (Or.inr ⟨rfl, rfl⟩) rfl rfl rfl g_1 (fun h_9 e_10 => ?_)
  replace w := w h_9 e_10
  refine jw_aload_n (pc' := 16) rfl rfl ?_
  refine jw_bipush (pc' := 18) (x := (64 : Int32)) rfl rfl ?_
  refine jw_anew' (pc' := 21) (n := 64) (k := 163) rfl rfl rfl rfl rfl rfl rfl (jtb_mem (c := 15) (i := 100) rfl) ⟨by decide, rfl⟩ rfl (fun r_11 h_12 e_13 e_14 => ?_)
  replace w := w r_11 h_12 e_13 e_14
  refine jw_putR' (pc' := 24) (F := 176) rfl rfl rfl (Or.inr rfl) (Or.inl rfl) rfl rfl rfl g_1 (fun h_15 e_16 => ?_)
  replace w := w h_15 e_16
  refine jw_aload_n (pc' := 25) rfl rfl ?_
  refine jw_new' (pc' := 28) (k := 116) (n := 2) rfl rfl rfl rfl rfl rfl rfl (fun r_17 h_18 e_19 e_20 => ?_)
  replace w := w r_17 h_18 e_19 e_20
  refine jw_dup (pc' := 29) rfl rfl ?_
  refine jw_cV (st := [vR 116 r_17, vR 41 r0]) (sa := [vR 116 r_17]) okX10_init rfl rfl rfl rfl rfl rfl (jstp_init (sa := []) (st := [vR 116 r_17, vR 41 r0]) rfl rfl sX10_init okX10_init (lw_g (jtb_mem (c := 15) (i := 105) rfl) rfl) (jnz e_19) rfl rfl) w (fun h_21 _ _ w => ?_)
  refine jw_putR' (pc' := 35) (F := 178) rfl rfl rfl (Or.inr rfl) (Or.inr ⟨rfl, rfl⟩) rfl rfl rfl g_1 (fun h_24 e_25 => ?_)
  replace w := w h_24 e_25
  refine jw_aload_n (pc' := 36) rfl rfl ?_
  refine jw_new' (pc' := 39) (k := 117) (n := 2) rfl rfl rfl rfl rfl rfl rfl (fun r_26 h_27 e_28 e_29 => ?_)
  replace w := w r_26 h_27 e_28 e_29
  refine jw_dup (pc' := 40) rfl rfl ?_
  refine jw_cV (st := [vR 117 r_26, vR 41 r0]) (sa := [vR 117 r_26]) okX10_init rfl rfl rfl rfl rfl rfl (jstp_init (sa := []) (st := [vR 117 r_26, vR 41 r0]) rfl rfl sX10_init okX10_init (lw_g (jtb_mem (c := 15) (i := 105) rfl) rfl) (jnz e_28) rfl rfl) w (fun h_30 _ _ w => ?_)
  refine jw_putR' (pc' := 46) (F := 179) rfl rfl rfl (Or.inr rfl) (Or.inr ⟨rfl, rfl⟩) rfl rfl rfl g_1 (fun h_33 e_34 => ?_)
  replace w := w h_33 e_34
  refine jw_aload_n (pc' := 47) rfl rfl ?_
  refine jw_new' (pc' := 50) (k := 119) (n := 8) rfl rfl rfl rfl rfl rfl rfl (fun r_35 h_36 e_37 e_38 => ?_)
  replace w := w r_35 h_36 e_37 e_38
  refine jw_dup (pc' := 51) rfl rfl ?_
  refine jw_cV (st := [vR 119 r_35, vR 41 r0]) (sa := [vR 119 r_35]) okX11_init rfl rfl rfl rfl rfl rfl (jstp_init (sa := []) (st := [vR 119 r_35, vR 41 r0]) rfl rfl sX11_init okX11_init (lw_g (jtb_mem (c := 15) (i := 112) rfl) rfl) (jnz e_37) rfl rfl) w (fun h_39 _ _ w => ?_)
  refine jw_putR' (pc' := 57) (F := 180) rfl rfl rfl (Or.inr rfl) (Or.inr ⟨rfl, rfl⟩) rfl rfl rfl g_1 (fun h_42 e_43 => ?_)
  replace w := w h_42 e_43
  refine jw_aload_n (pc' := 58) rfl rfl ?_
  refine jw_bipush (pc' := 60) (x := (64 : Int32)) rfl rfl ?_
  refine jw_newa' (pc' := 62) (n := 64) (k := 164) rfl rfl rfl rfl rfl rfl (lw_g (jtb_mem (c := 1) (i := 105) rfl) rfl) ⟨by decide, rfl⟩ (by decide) (fun r_44 h_45 e_46 e_47 => ?_)
  replace w := w r_44 h_45 e_46 e_47
  refine jw_putR' (pc' := 65) (F := 181) rfl rfl rfl (Or.inr rfl) (Or.inl rfl) rfl rfl rfl g_1 (fun h_48 e_49 => ?_)
  replace w := w h_48 e_49
  refine jw_aload_n (pc' := 66) rfl rfl ?_
  refine jw_sipush (pc' := 69) (x := (400 : Int32)) rfl rfl ?_
  refine jw_anew' (pc' := 72) (n := 400) (k := 165) rfl rfl rfl rfl rfl rfl rfl (jtb_mem (c := 6) (i := 222) rfl) ⟨by decide, rfl⟩ rfl (fun r_50 h_51 e_52 e_53 => ?_)
  replace w := w r_50 h_51 e_52 e_53
  refine jw_putR' (pc' := 75) (F := 192) rfl rfl rfl (Or.inr rfl) (Or.inr ⟨rfl, rfl⟩) rfl rfl rfl g_1 (fun h_54 e_55 => ?_)
  replace w := w h_54 e_55
  refine jw_aload_n (pc' := 76) rfl rfl ?_
  refine jw_sipush (pc' := 79) (x := (400 : Int32)) rfl rfl ?_
  refine jw_newa' (pc' := 81) (n := 400) (k := 166) rfl rfl rfl rfl rfl rfl (lw_g (jtb_mem (c := 9) (i := 151) rfl) rfl) ⟨by decide, rfl⟩ (by decide) (fun r_56 h_57 e_58 e_59 => ?_)
  replace w := w r_56 h_57 e_58 e_59
  refine jw_putR' (pc' := 84) (F := 193) rfl rfl rfl (Or.inr rfl) (Or.inr ⟨rfl, rfl⟩) rfl rfl rfl g_1 (fun h_60 e_61 => ?_)
  replace w := w h_60 e_61
  refine jw_aload_n (pc' := 85) rfl rfl ?_
  refine jw_bipush (pc' := 87) (x := (6 : Int32)) rfl rfl ?_
  refine jw_anew' (pc' := 90) (n := 6) (k := 83) rfl rfl rfl rfl rfl rfl rfl (jtb_mem (c := 6) (i := 222) rfl) ⟨by decide, rfl⟩ rfl (fun r_62 h_63 e_64 e_65 => ?_)
  replace w := w r_62 h_63 e_64 e_65
  refine jw_dup (pc' := 91) rfl rfl ?_
  refine jw_iconst (pc' := 92) (x := (0 : Int32)) rfl rfl ?_
  refine jw_ldcwS (pc' := 95) rfl rfl rfl rfl ?_
  obtain ⟨g_66, w⟩ := w
  refine jw_aast' (pc' := 96) rfl rfl rfl rfl rfl rfl (jnz e_64) g_66 (fun h_67 e_68 => ?_)
  replace w := w h_67 e_68
  refine jw_dup (pc' := 97) rfl rfl ?_
  refine jw_iconst (pc' := 98) (x := (1 : Int32)) rfl rfl ?_
  refine jw_ldcwS (pc' := 101) rfl rfl rfl rfl ?_
  obtain ⟨g_69, w⟩ := w
  refine jw_aast' (pc' := 102) rfl rfl rfl rfl rfl rfl (jnz e_64) g_69 (fun h_70 e_71 => ?_)
  replace w := w h_70 e_71
  refine jw_dup (pc' := 103) rfl rfl ?_
  refine jw_iconst (pc' := 104) (x := (2 : Int32)) rfl rfl ?_
  refine jw_ldcwS (pc' := 107) rfl rfl rfl rfl ?_
  obtain ⟨g_72, w⟩ := w
  refine jw_aast' (pc' := 108) rfl rfl rfl rfl rfl rfl (jnz e_64) g_72 (fun h_73 e_74 => ?_)
  replace w := w h_73 e_74
  refine jw_dup (pc' := 109) rfl rfl ?_
  refine jw_iconst (pc' := 110) (x := (3 : Int32)) rfl rfl ?_
  refine jw_ldcwS (pc' := 113) rfl rfl rfl rfl ?_
  obtain ⟨g_75, w⟩ := w
  refine jw_aast' (pc' := 114) rfl rfl rfl rfl rfl rfl (jnz e_64) g_75 (fun h_76 e_77 => ?_)
  replace w := w h_76 e_77
  refine jw_dup (pc' := 115) rfl rfl ?_
  refine jw_iconst (pc' := 116) (x := (4 : Int32)) rfl rfl ?_
  refine jw_ldcwS (pc' := 119) rfl rfl rfl rfl ?_
  obtain ⟨g_78, w⟩ := w
  refine jw_aast' (pc' := 120) rfl rfl rfl rfl rfl rfl (jnz e_64) g_78 (fun h_79 e_80 => ?_)
  replace w := w h_79 e_80
  refine jw_dup (pc' := 121) rfl rfl ?_
  refine jw_iconst (pc' := 122) (x := (5 : Int32)) rfl rfl ?_
  refine jw_ldcwS (pc' := 125) rfl rfl rfl rfl ?_
  obtain ⟨g_81, w⟩ := w
  refine jw_aast' (pc' := 126) rfl rfl rfl rfl rfl rfl (jnz e_64) g_81 (fun h_82 e_83 => ?_)
  replace w := w h_82 e_83
  refine jw_putR' (pc' := 129) (F := 195) rfl rfl rfl (Or.inr rfl) (Or.inr ⟨rfl, rfl⟩) rfl rfl rfl g_1 (fun h_84 e_85 => ?_)
  replace w := w h_84 e_85
  refine jw_aload_n (pc' := 130) rfl rfl ?_
  refine jw_iconst (pc' := 131) (x := (3 : Int32)) rfl rfl ?_
  refine jw_anew' (pc' := 134) (n := 3) (k := 167) rfl rfl rfl rfl rfl rfl rfl (jtb_mem (c := 15) (i := 108) rfl) ⟨by decide, rfl⟩ rfl (fun r_86 h_87 e_88 e_89 => ?_)
  replace w := w r_86 h_87 e_88 e_89
  refine jw_putR' (pc' := 137) (F := 200) rfl rfl rfl (Or.inr rfl) (Or.inr ⟨rfl, rfl⟩) rfl rfl rfl g_1 (fun h_90 e_91 => ?_)
  replace w := w h_90 e_91
  refine jw_aload_n (pc' := 138) rfl rfl ?_
  refine jw_iconst (pc' := 139) (x := (3 : Int32)) rfl rfl ?_
  refine jw_newa' (pc' := 141) (n := 3) (k := 168) rfl rfl rfl rfl rfl rfl (lw_g (jtb_mem (c := 2) (i := 11) rfl) rfl) ⟨by decide, rfl⟩ (by decide) (fun r_92 h_93 e_94 e_95 => ?_)
  replace w := w r_92 h_93 e_94 e_95
  refine jw_putR' (pc' := 144) (F := 204) rfl rfl rfl (Or.inr rfl) (Or.inr ⟨rfl, rfl⟩) rfl rfl rfl g_1 (fun h_96 e_97 => ?_)
  replace w := w h_96 e_97
  refine jw_aload_n (pc' := 145) rfl rfl ?_
  refine jw_bipush (pc' := 147) (x := (41 : Int32)) rfl rfl ?_
  refine jw_newa' (pc' := 149) (n := 41) (k := 169) rfl rfl rfl rfl rfl rfl (lw_g (jtb_mem (c := 9) (i := 151) rfl) rfl) ⟨by decide, rfl⟩ (by decide) (fun r_98 h_99 e_100 e_101 => ?_)
  replace w := w r_98 h_99 e_100 e_101
  refine jw_putR' (pc' := 152) (F := 207) rfl rfl rfl (Or.inr rfl) (Or.inr ⟨rfl, rfl⟩) rfl rfl rfl g_1 (fun h_102 e_103 => ?_)
  replace w := w h_102 e_103
  refine jw_aload_n (pc' := 153) rfl rfl ?_
  refine jw_bipush (pc' := 155) (x := (96 : Int32)) rfl rfl ?_
  refine jw_newa' (pc' := 157) (n := 96) (k := 170) rfl rfl rfl rfl rfl rfl (lw_g (jtb_mem (c := 2) (i := 11) rfl) rfl) ⟨by decide, rfl⟩ (by decide) (fun r_104 h_105 e_106 e_107 => ?_)
  replace w := w r_104 h_105 e_106 e_107
  refine jw_putR' (pc' := 160) (F := 208) rfl rfl rfl (Or.inr rfl) (Or.inl rfl) rfl rfl rfl g_1 (fun h_108 e_109 => ?_)
  replace w := w h_108 e_109
  refine jw_aload_n (pc' := 161) rfl rfl ?_
  refine jw_bipush (pc' := 163) (x := (32 : Int32)) rfl rfl ?_
  refine jw_newa' (pc' := 165) (n := 32) (k := 171) rfl rfl rfl rfl rfl rfl (lw_g (jtb_mem (c := 2) (i := 11) rfl) rfl) ⟨by decide, rfl⟩ (by decide) (fun r_110 h_111 e_112 e_113 => ?_)
  replace w := w r_110 h_111 e_112 e_113
  refine jw_putR' (pc' := 168) (F := 210) rfl rfl rfl (Or.inr rfl) (Or.inl rfl) rfl rfl rfl g_1 (fun h_114 e_115 => ?_)
  replace w := w h_114 e_115
  refine jw_aload_n (pc' := 169) rfl rfl ?_
  refine jw_bipush (pc' := 171) (x := (64 : Int32)) rfl rfl ?_
  refine jw_anew' (pc' := 174) (n := 64) (k := 172) rfl rfl rfl rfl rfl rfl rfl (jtb_mem (c := 15) (i := 100) rfl) ⟨by decide, rfl⟩ rfl (fun r_116 h_117 e_118 e_119 => ?_)
  replace w := w r_116 h_117 e_118 e_119
  refine jw_putR' (pc' := 177) (F := 212) rfl rfl rfl (Or.inr rfl) (Or.inl rfl) rfl rfl rfl g_1 (fun h_120 e_121 => ?_)
  replace w := w h_120 e_121
  refine jw_aload_n (pc' := 178) rfl rfl ?_
  refine jw_bipush (pc' := 180) (x := (64 : Int32)) rfl rfl ?_
  refine jw_anew' (pc' := 183) (n := 64) (k := 172) rfl rfl rfl rfl rfl rfl rfl (jtb_mem (c := 15) (i := 100) rfl) ⟨by decide, rfl⟩ rfl (fun r_122 h_123 e_124 e_125 => ?_)
  replace w := w r_122 h_123 e_124 e_125
  refine jw_putR' (pc' := 186) (F := 213) rfl rfl rfl (Or.inr rfl) (Or.inl rfl) rfl rfl rfl g_1 (fun h_126 e_127 => ?_)
  replace w := w h_126 e_127
  refine jw_aload_n (pc' := 187) rfl rfl ?_
  refine jw_bipush (pc' := 189) (x := (32 : Int32)) rfl rfl ?_
  refine jw_newa' (pc' := 191) (n := 32) (k := 173) rfl rfl rfl rfl rfl rfl (lw_g (jtb_mem (c := 2) (i := 11) rfl) rfl) ⟨by decide, rfl⟩ (by decide) (fun r_128 h_129 e_130 e_131 => ?_)
  replace w := w r_128 h_129 e_130 e_131
  refine jw_putR' (pc' := 194) (F := 214) rfl rfl rfl (Or.inr rfl) (Or.inl rfl) rfl rfl rfl g_1 (fun h_132 e_133 => ?_)
  replace w := w h_132 e_133
  refine jw_aload_n (pc' := 195) rfl rfl ?_
  refine jw_bipush (pc' := 197) (x := (8 : Int32)) rfl rfl ?_
  refine jw_anew' (pc' := 200) (n := 8) (k := 174) rfl rfl rfl rfl rfl rfl rfl (jtb_mem (c := 15) (i := 100) rfl) ⟨by decide, rfl⟩ rfl (fun r_134 h_135 e_136 e_137 => ?_)
  replace w := w r_134 h_135 e_136 e_137
  refine jw_putR' (pc' := 203) (F := 216) rfl rfl rfl (Or.inr rfl) (Or.inr ⟨rfl, rfl⟩) rfl rfl rfl g_1 (fun h_138 e_139 => ?_)
  replace w := w h_138 e_139
  refine jw_aload_n (pc' := 204) rfl rfl ?_
  refine jw_sipush (pc' := 207) (x := (3200 : Int32)) rfl rfl ?_
  refine jw_anew' (pc' := 210) (n := 3200) (k := 175) rfl rfl rfl rfl rfl rfl rfl (jtb_mem (c := 15) (i := 100) rfl) ⟨by decide, rfl⟩ rfl (fun r_140 h_141 e_142 e_143 => ?_)
  replace w := w r_140 h_141 e_142 e_143
  refine jw_putR' (pc' := 213) (F := 217) rfl rfl rfl (Or.inr rfl) (Or.inr ⟨rfl, rfl⟩) rfl rfl rfl g_1 (fun h_144 e_145 => ?_)
  replace w := w h_144 e_145
  refine jw_aload_n (pc' := 214) rfl rfl ?_
  refine jw_sipush (pc' := 217) (x := (401 : Int32)) rfl rfl ?_
  refine jw_newa' (pc' := 219) (n := 401) (k := 176) rfl rfl rfl rfl rfl rfl (lw_g (jtb_mem (c := 2) (i := 11) rfl) rfl) ⟨by decide, rfl⟩ (by decide) (fun r_146 h_147 e_148 e_149 => ?_)
  replace w := w r_146 h_147 e_148 e_149
  refine jw_putR' (pc' := 222) (F := 218) rfl rfl rfl (Or.inr rfl) (Or.inr ⟨rfl, rfl⟩) rfl rfl rfl g_1 (fun h_150 e_151 => ?_)
  replace w := w h_150 e_151
  refine jw_aload_n (pc' := 223) rfl rfl ?_
  refine jw_sipush (pc' := 226) (x := (401 : Int32)) rfl rfl ?_
  refine jw_newa' (pc' := 228) (n := 401) (k := 177) rfl rfl rfl rfl rfl rfl (lw_g (jtb_mem (c := 9) (i := 151) rfl) rfl) ⟨by decide, rfl⟩ (by decide) (fun r_152 h_153 e_154 e_155 => ?_)
  replace w := w r_152 h_153 e_154 e_155
  refine jw_putR' (pc' := 231) (F := 219) rfl rfl rfl (Or.inr rfl) (Or.inr ⟨rfl, rfl⟩) rfl rfl rfl g_1 (fun h_156 e_157 => ?_)
  replace w := w h_156 e_157
  refine jw_aload_n (pc' := 232) rfl rfl ?_
  refine jw_bipush (pc' := 234) (x := (20 : Int32)) rfl rfl ?_
  refine jw_bipush (pc' := 236) (x := (10 : Int32)) rfl rfl ?_
  refine jw_multi' (pc' := 240) (n := 20) (m := 10) rfl rfl ⟨by decide, rfl⟩ ⟨by decide, rfl⟩ rfl rfl (fun r_158 h_159 e_160 e_161 => ?_)
  replace w := w r_158 h_159 e_160 e_161
  refine jw_putR' (pc' := 243) (F := 221) rfl rfl rfl (Or.inr rfl) (Or.inr ⟨rfl, rfl⟩) rfl rfl rfl g_1 (fun h_162 e_163 => ?_)
  replace w := w h_162 e_163
  refine jw_aload_n (pc' := 244) rfl rfl ?_
  refine jw_sipush (pc' := 247) (x := (2000 : Int32)) rfl rfl ?_
  refine jw_newa' (pc' := 249) (n := 2000) (k := 178) rfl rfl rfl rfl rfl rfl (lw_g (jtb_mem (c := 1) (i := 105) rfl) rfl) ⟨by decide, rfl⟩ (by decide) (fun r_164 h_165 e_166 e_167 => ?_)
  replace w := w r_164 h_165 e_166 e_167
  refine jw_putR' (pc' := 252) (F := 222) rfl rfl rfl (Or.inr rfl) (Or.inr ⟨rfl, rfl⟩) rfl rfl rfl g_1 (fun h_168 e_169 => ?_)
  replace w := w h_168 e_169
  refine jw_aload_n (pc' := 253) rfl rfl ?_
  refine jw_sipush (pc' := 256) (x := (8192 : Int32)) rfl rfl ?_
  refine jw_newa' (pc' := 258) (n := 8192) (k := 179) rfl rfl rfl rfl rfl rfl (lw_g (jtb_mem (c := 1) (i := 105) rfl) rfl) ⟨by decide, rfl⟩ (by decide) (fun r_170 h_171 e_172 e_173 => ?_)
  replace w := w r_170 h_171 e_172 e_173
  refine jw_putR' (pc' := 261) (F := 224) rfl rfl rfl (Or.inr rfl) (Or.inr ⟨rfl, rfl⟩) rfl rfl rfl g_1 (fun h_174 e_175 => ?_)
  replace w := w h_174 e_175
  refine jw_aload_n (pc' := 262) rfl rfl ?_
  refine jw_sipush (pc' := 265) (x := (256 : Int32)) rfl rfl ?_
  refine jw_newa' (pc' := 267) (n := 256) (k := 180) rfl rfl rfl rfl rfl rfl (lw_g (jtb_mem (c := 1) (i := 105) rfl) rfl) ⟨by decide, rfl⟩ (by decide) (fun r_176 h_177 e_178 e_179 => ?_)
  replace w := w r_176 h_177 e_178 e_179
  refine jw_putR' (pc' := 270) (F := 226) rfl rfl rfl (Or.inr rfl) (Or.inl rfl) rfl rfl rfl g_1 (fun h_180 e_181 => ?_)
  replace w := w h_180 e_181
  refine jw_aload_n (pc' := 271) rfl rfl ?_
  refine jw_bipush (pc' := 273) (x := (10 : Int32)) rfl rfl ?_
  refine jw_anew' (pc' := 276) (n := 10) (k := 181) rfl rfl rfl rfl rfl rfl rfl (jtb_mem (c := 15) (i := 171) rfl) ⟨by decide, rfl⟩ rfl (fun r_182 h_183 e_184 e_185 => ?_)
  replace w := w r_182 h_183 e_184 e_185
  refine jw_putR' (pc' := 279) (F := 231) rfl rfl rfl (Or.inr rfl) (Or.inr ⟨rfl, rfl⟩) rfl rfl rfl g_1 (fun h_186 e_187 => ?_)
  replace w := w h_186 e_187
  refine jw_aload_n (pc' := 280) rfl rfl ?_
  refine jw_bipush (pc' := 282) (x := (10 : Int32)) rfl rfl ?_
  refine jw_anew' (pc' := 285) (n := 10) (k := 182) rfl rfl rfl rfl rfl rfl rfl (jtb_mem (c := 15) (i := 173) rfl) ⟨by decide, rfl⟩ rfl (fun r_188 h_189 e_190 e_191 => ?_)
  replace w := w r_188 h_189 e_190 e_191
  refine jw_putR' (pc' := 288) (F := 233) rfl rfl rfl (Or.inr rfl) (Or.inr ⟨rfl, rfl⟩) rfl rfl rfl g_1 (fun h_192 e_193 => ?_)
  replace w := w h_192 e_193
  refine jw_aload_n (pc' := 289) rfl rfl ?_
  refine jw_new' (pc' := 292) (k := 120) (n := 9) rfl rfl rfl rfl rfl rfl rfl (fun r_194 h_195 e_196 e_197 => ?_)
  replace w := w r_194 h_195 e_196 e_197
  refine jw_dup (pc' := 293) rfl rfl ?_
  refine jw_cV (st := [vR 120 r_194, vR 41 r0]) (sa := [vR 120 r_194]) okX12_init rfl rfl rfl rfl rfl rfl (jstp_init (sa := []) (st := [vR 120 r_194, vR 41 r0]) rfl rfl sX12_init okX12_init (lw_g (jtb_mem (c := 15) (i := 178) rfl) rfl) (jnz e_196) rfl rfl) w (fun h_198 _ _ w => ?_)
  refine jw_putR' (pc' := 299) (F := 235) rfl rfl rfl (Or.inr rfl) (Or.inr ⟨rfl, rfl⟩) rfl rfl rfl g_1 (fun h_201 e_202 => ?_)
  replace w := w h_201 e_202
  refine jw_aload_n (pc' := 300) rfl rfl ?_
  refine jw_bipush (pc' := 302) (x := (20 : Int32)) rfl rfl ?_
  refine jw_anew' (pc' := 305) (n := 20) (k := 183) rfl rfl rfl rfl rfl rfl rfl (jtb_mem (c := 15) (i := 217) rfl) ⟨by decide, rfl⟩ rfl (fun r_203 h_204 e_205 e_206 => ?_)
  replace w := w r_203 h_204 e_205 e_206
  refine jw_putR' (pc' := 308) (F := 241) rfl rfl rfl (Or.inr rfl) (Or.inr ⟨rfl, rfl⟩) rfl rfl rfl g_1 (fun h_207 e_208 => ?_)
  replace w := w h_207 e_208
  refine jw_aload_n (pc' := 309) rfl rfl ?_
  refine jw_bipush (pc' := 311) (x := (16 : Int32)) rfl rfl ?_
  refine jw_newa' (pc' := 313) (n := 16) (k := 184) rfl rfl rfl rfl rfl rfl (lw_g (jtb_mem (c := 2) (i := 11) rfl) rfl) ⟨by decide, rfl⟩ (by decide) (fun r_209 h_210 e_211 e_212 => ?_)
  replace w := w r_209 h_210 e_211 e_212
  refine jw_putR' (pc' := 316) (F := 242) rfl rfl rfl (Or.inr rfl) (Or.inr ⟨rfl, rfl⟩) rfl rfl rfl g_1 (fun h_213 e_214 => ?_)
  replace w := w h_213 e_214
  refine jw_aload_n (pc' := 317) rfl rfl ?_
  refine jw_bipush (pc' := 319) (x := (16 : Int32)) rfl rfl ?_
  refine jw_anew' (pc' := 322) (n := 16) (k := 185) rfl rfl rfl rfl rfl rfl rfl (jtb_mem (c := 15) (i := 100) rfl) ⟨by decide, rfl⟩ rfl (fun r_215 h_216 e_217 e_218 => ?_)
  replace w := w r_215 h_216 e_217 e_218
  refine jw_putR' (pc' := 325) (F := 243) rfl rfl rfl (Or.inr rfl) (Or.inr ⟨rfl, rfl⟩) rfl rfl rfl g_1 (fun h_219 e_220 => ?_)
  replace w := w h_219 e_220
  refine jw_aload_n (pc' := 326) rfl rfl ?_
  refine jw_bipush (pc' := 328) (x := (16 : Int32)) rfl rfl ?_
  refine jw_anew' (pc' := 331) (n := 16) (k := 186) rfl rfl rfl rfl rfl rfl rfl (jtb_mem (c := 15) (i := 217) rfl) ⟨by decide, rfl⟩ rfl (fun r_221 h_222 e_223 e_224 => ?_)
  replace w := w r_221 h_222 e_223 e_224
  refine jw_putR' (pc' := 334) (F := 244) rfl rfl rfl (Or.inr rfl) (Or.inr ⟨rfl, rfl⟩) rfl rfl rfl g_1 (fun h_225 e_226 => ?_)
  replace w := w h_225 e_226
  refine jw_iconst (pc' := 335) (x := (0 : Int32)) rfl rfl ?_
  refine jw_istore_n (pc' := 336) (ls' := [some (vR 41 r0), some (vI (0 : Int32))]) rfl (by decide) rfl ?_
  obtain ⟨n, w⟩ := w
  exact l_X8_init_336 n _ _ _ w
def T_X8_init (D : JD) (d : Nat) (Q : JO → JH → Prop) (r0 : Nat) (h : JH) : Prop := W_X8_init_0 D d Q r0 h
theorem t_X8_init {D : JD} {d : Nat} {Q : JO → JH → Prop} {r0 : Nat} {h : JH} (w : T_X8_init D d Q r0 h) : cX8_init D (d + 1) r0 h Q := by
  unfold T_X8_init at w
  unfold cX8_init
  exact w_X8_init_0 w
def W_X8_feed_58 (D : JD) (d : Nat) (Q : JO → JH → Prop) (K58 : Nat → Nat → Int32 → JH → Prop) (r0 : Nat) (r6 : Nat) (x7 : Int32) (h : JH) : Prop :=
  ((20 : Int32) ≤ x7 → r0 ≠ 0 ∧ (∀ h_3 : JH, h_3 = wfi h 223 r0 ((jfi h 223 r0) + (20 : Int32)) → (Q (.inl (some (vI (jfi h_3 223 r0)))) h_3))) ∧ (¬ (20 : Int32) ≤ x7 → r0 ≠ 0 ∧ (r6 ≠ 0 ∧ jin (x7 / (4 : Int32)) (jln h r6) ∧ ((jfr h 222 r0) ≠ 0 ∧ jin ((jfi h 223 r0) + x7) (jln h (jfr h 222 r0)) ∧ ∀ h_10 : JH, h_10 = wai h (jfr h 222 r0) (ixn ((jfi h 223 r0) + x7)) ((Int32.toInt8 ((Int32.toInt8 ((Int32.toUInt32 (jai h r6 (ixn (x7 / (4 : Int32)))) >>> (Int32.toUInt32 ((24 : Int32) - ((8 : Int32) * (x7 - x7 / (4 : Int32) * (4 : Int32)))) &&& Int32.toUInt32 31)).toInt32)).toInt32)).toInt32) → (K58 r0 r6 (x7 + (1 : Int32)) h_10))))
theorem w_X8_feed_58 {D : JD} {d : Nat} {Q : JO → JH → Prop} {K58 : Nat → Nat → Int32 → JH → Prop} {r0 : Nat} {r6 : Nat} {x7 : Int32} {h : JH} (hK58 : ∀ (r0 : Nat) (r6 : Nat) (x7 : Int32) (h : JH), K58 r0 r6 x7 h → JW D (d + 1) mX8_feed 58 [some (vR 41 r0), none, none, none, none, none, some (vR 68 r6), some (vI x7)] [] h Q) (w : W_X8_feed_58 D d Q K58 r0 r6 x7 h) : JW D (d + 1) mX8_feed 58 [some (vR 41 r0), none, none, none, none, none, some (vR 68 r6), some (vI x7)] [] h Q := by
  unfold W_X8_feed_58 at w
  refine jw_iload (pc' := 60) rfl rfl ?_
  refine jw_bipush (pc' := 62) (x := (20 : Int32)) rfl rfl ?_
  refine jw_icmp_ge (tgt := 102) (pc' := 65) rfl rfl (fun c_1 => ?_) (fun c_1 => ?_)
  · replace w := w.1 c_1
    refine jw_aload_n (pc' := 103) rfl rfl ?_
    refine jw_dup (pc' := 104) rfl rfl ?_
    obtain ⟨g_2, w⟩ := w
    refine jw_getI (pc' := 107) (F := 223) rfl rfl rfl rfl g_2 ?_
    refine jw_bipush (pc' := 109) (x := (20 : Int32)) rfl rfl ?_
    refine jw_iadd (pc' := 110) rfl ?_
    refine jw_putI' (pc' := 113) (F := 223) rfl rfl rfl (Or.inr rfl) (Or.inl rfl) rfl (rfl) (rfl) rfl g_2 (fun h_3 e_4 => ?_)
    replace w := w h_3 e_4
    refine jw_aload_n (pc' := 114) rfl rfl ?_
    refine jw_getI (pc' := 117) (F := 223) rfl rfl rfl rfl g_2 ?_
    exact jw_ireturn rfl rfl (rfl) w
  · replace w := w.2 c_1
    refine jw_aload_n (pc' := 66) rfl rfl ?_
    obtain ⟨g_5, w⟩ := w
    refine jw_getR (pc' := 69) (F := 222) (t' := 178) rfl rfl rfl rfl rfl g_5 ?_
    refine jw_aload_n (pc' := 70) rfl rfl ?_
    refine jw_getI (pc' := 73) (F := 223) rfl rfl rfl rfl g_5 ?_
    refine jw_iload (pc' := 75) rfl rfl ?_
    refine jw_iadd (pc' := 76) rfl ?_
    refine jw_aload (pc' := 78) rfl rfl ?_
    refine jw_iload (pc' := 80) rfl rfl ?_
    refine jw_iconst (pc' := 81) (x := (4 : Int32)) rfl rfl ?_
    refine jw_idiv (pc' := 82) rfl (by decide) ?_
    obtain ⟨g_6, w⟩ := w
    obtain ⟨g_7, w⟩ := w
    refine jw_iald (pc' := 83) rfl rfl rfl rfl g_6 g_7.ix g_7.2 ?_
    refine jw_bipush (pc' := 85) (x := (24 : Int32)) rfl rfl ?_
    refine jw_bipush (pc' := 87) (x := (8 : Int32)) rfl rfl ?_
    refine jw_iload (pc' := 89) rfl rfl ?_
    refine jw_iconst (pc' := 90) (x := (4 : Int32)) rfl rfl ?_
    refine jw_irem (pc' := 91) rfl (by decide) ?_
    refine jw_imul (pc' := 92) rfl ?_
    refine jw_isub (pc' := 93) rfl ?_
    refine jw_iushr (pc' := 94) rfl ?_
    refine jw_i2b (pc' := 95) rfl ?_
    obtain ⟨g_8, w⟩ := w
    obtain ⟨g_9, w⟩ := w
    refine jw_bast' (pc' := 96) rfl rfl rfl rfl rfl g_8 g_9 (fun h_10 e_11 => ?_)
    replace w := w h_10 e_11
    refine jw_iinc (pc' := 99) (y := x7 + (1 : Int32)) (ls' := [some (vR 41 r0), none, none, none, none, none, some (vR 68 r6), some (vI (x7 + (1 : Int32)))]) rfl (by decide) rfl rfl rfl ?_
    refine jw_goto (pc' := 58) rfl rfl ?_
    exact hK58 _ _ _ _ w
def L_X8_feed_58 (D : JD) (d : Nat) (Q : JO → JH → Prop) : Nat → Nat → Nat → Int32 → JH → Prop
  | 0 => fun _ _ _ _ => False
  | n + 1 => fun r0 r6 x7 h => W_X8_feed_58 D d Q (L_X8_feed_58 D d Q n) r0 r6 x7 h
theorem l_X8_feed_58 {D : JD} {d : Nat} {Q : JO → JH → Prop} : ∀ (n : Nat) (r0 : Nat) (r6 : Nat) (x7 : Int32) (h : JH), L_X8_feed_58 D d Q n r0 r6 x7 h → JW D (d + 1) mX8_feed 58 [some (vR 41 r0), none, none, none, none, none, some (vR 68 r6), some (vI x7)] [] h Q := by
  intro n
  induction n with
  | zero => intro _ _ _ _ w; exact w.elim
  | succ n ih => intro _ _ _ h w; exact w_X8_feed_58 ih w
def W_X8_feed_19 (D : JD) (d : Nat) (Q : JO → JH → Prop) (r0 : Nat) (x1 : Int32) (x2 : Int32) (x3 : Int32) (x4 : Int32) (x5 : Int32) (q0 : Nat) (s1 : Int32) (h : JH) : Prop :=
  q0 ≠ 0 ∧ (cX8_good D d q0 s1 (1 : Int32) h (pI D h (fun v_4 h_2 => (¬ v_4 = 0 → ∀ (r_6 : Nat) (h_7 : JH), r_6 = jsz h_2 + 1 → h_7 = nwa h_2 68 5 → (jin (0 : Int32) (jln h_7 r_6) ∧ ∀ h_11 : JH, h_11 = wai h_7 r_6 (ixn (0 : Int32)) x1 → (jin (1 : Int32) (jln h_11 r_6) ∧ ∀ h_14 : JH, h_14 = wai h_11 r_6 (ixn (1 : Int32)) x2 → (jin (2 : Int32) (jln h_14 r_6) ∧ ∀ h_17 : JH, h_17 = wai h_14 r_6 (ixn (2 : Int32)) x3 → (jin (3 : Int32) (jln h_17 r_6) ∧ ∀ h_20 : JH, h_20 = wai h_17 r_6 (ixn (3 : Int32)) x4 → (jin (4 : Int32) (jln h_20 r_6) ∧ ∀ h_23 : JH, h_23 = wai h_20 r_6 (ixn (4 : Int32)) x5 → (∃ n, L_X8_feed_58 D d Q n r0 r_6 (0 : Int32) h_23))))))) ∧ (v_4 = 0 → Q (.inl (some (vI (0 : Int32)))) h_2)) (jth Q)))
theorem w_X8_feed_19 {D : JD} {d : Nat} {Q : JO → JH → Prop} {r0 : Nat} {x1 : Int32} {x2 : Int32} {x3 : Int32} {x4 : Int32} {x5 : Int32} {q0 : Nat} {s1 : Int32} {h : JH} (w : W_X8_feed_19 D d Q r0 x1 x2 x3 x4 x5 q0 s1 h) : JW D (d + 1) mX8_feed 19 [some (vR 41 r0), some (vI x1), some (vI x2), some (vI x3), some (vI x4), some (vI x5), none, none] [vI s1, vR 41 q0] h Q := by
  unfold W_X8_feed_19 at w
  refine jw_iconst (pc' := 20) (x := (1 : Int32)) rfl rfl ?_
  obtain ⟨g_1, w⟩ := w
  refine jw_cI (st := []) (sa := [vR 41 q0, vI s1, vI (1 : Int32)]) okX8_good rfl rfl rfl rfl rfl rfl (jstp_virtual (sa := [vI s1, vI (1 : Int32)]) (st := []) (k := 0) rfl rfl sX8_good okX8_good g_1 (one41.k g_1) rfl rfl) w (fun v_4 h_2 _ _ w => ?_)
  refine jw_if_ne (tgt := 28) (pc' := 26) rfl rfl (fun c_5 => ?_) (fun c_5 => ?_)
  · replace w := w.1 c_5
    refine jw_iconst (pc' := 29) (x := (5 : Int32)) rfl rfl ?_
    refine jw_newa' (pc' := 31) (n := 5) (k := 68) rfl rfl rfl rfl rfl rfl (lw_g (jtb_mem (c := 2) (i := 11) rfl) rfl) ⟨by decide, rfl⟩ (by decide) (fun r_6 h_7 e_8 e_9 => ?_)
    replace w := w r_6 h_7 e_8 e_9
    refine jw_dup (pc' := 32) rfl rfl ?_
    refine jw_iconst (pc' := 33) (x := (0 : Int32)) rfl rfl ?_
    refine jw_iload_n (pc' := 34) rfl rfl ?_
    obtain ⟨g_10, w⟩ := w
    refine jw_iast' (pc' := 35) rfl rfl rfl rfl rfl (jnz e_8) g_10 (fun h_11 e_12 => ?_)
    replace w := w h_11 e_12
    refine jw_dup (pc' := 36) rfl rfl ?_
    refine jw_iconst (pc' := 37) (x := (1 : Int32)) rfl rfl ?_
    refine jw_iload_n (pc' := 38) rfl rfl ?_
    obtain ⟨g_13, w⟩ := w
    refine jw_iast' (pc' := 39) rfl rfl rfl rfl rfl (jnz e_8) g_13 (fun h_14 e_15 => ?_)
    replace w := w h_14 e_15
    refine jw_dup (pc' := 40) rfl rfl ?_
    refine jw_iconst (pc' := 41) (x := (2 : Int32)) rfl rfl ?_
    refine jw_iload_n (pc' := 42) rfl rfl ?_
    obtain ⟨g_16, w⟩ := w
    refine jw_iast' (pc' := 43) rfl rfl rfl rfl rfl (jnz e_8) g_16 (fun h_17 e_18 => ?_)
    replace w := w h_17 e_18
    refine jw_dup (pc' := 44) rfl rfl ?_
    refine jw_iconst (pc' := 45) (x := (3 : Int32)) rfl rfl ?_
    refine jw_iload (pc' := 47) rfl rfl ?_
    obtain ⟨g_19, w⟩ := w
    refine jw_iast' (pc' := 48) rfl rfl rfl rfl rfl (jnz e_8) g_19 (fun h_20 e_21 => ?_)
    replace w := w h_20 e_21
    refine jw_dup (pc' := 49) rfl rfl ?_
    refine jw_iconst (pc' := 50) (x := (4 : Int32)) rfl rfl ?_
    refine jw_iload (pc' := 52) rfl rfl ?_
    obtain ⟨g_22, w⟩ := w
    refine jw_iast' (pc' := 53) rfl rfl rfl rfl rfl (jnz e_8) g_22 (fun h_23 e_24 => ?_)
    replace w := w h_23 e_24
    refine jw_astore (pc' := 55) (ls' := [some (vR 41 r0), some (vI x1), some (vI x2), some (vI x3), some (vI x4), some (vI x5), some (vR 68 r_6), none]) rfl (by decide) rfl ?_
    refine jw_iconst (pc' := 56) (x := (0 : Int32)) rfl rfl ?_
    refine jw_istore (pc' := 58) (ls' := [some (vR 41 r0), some (vI x1), some (vI x2), some (vI x3), some (vI x4), some (vI x5), some (vR 68 r_6), some (vI (0 : Int32))]) rfl (by decide) rfl ?_
    refine jw_gen (ls' := [some (vR 41 r0), none, none, none, none, none, some (vR 68 r_6), some (vI (0 : Int32))]) (st' := []) (And.intro (Or.inl rfl) (And.intro (Or.inl rfl) (And.intro (Or.inl rfl) (trivial)))) (trivial) ?_
    obtain ⟨n, w⟩ := w
    exact l_X8_feed_58 n _ _ _ _ w
  · replace w := w.2 c_5
    refine jw_iconst (pc' := 27) (x := (0 : Int32)) rfl rfl ?_
    exact jw_ireturn rfl rfl (rfl) w
def W_X8_feed_0 (D : JD) (d : Nat) (Q : JO → JH → Prop) (r0 : Nat) (x1 : Int32) (x2 : Int32) (x3 : Int32) (x4 : Int32) (x5 : Int32) (h : JH) : Prop :=
  r0 ≠ 0 ∧ (((2000 : Int32) < ((jfi h 223 r0) + (20 : Int32)) → W_X8_feed_19 D d Q r0 x1 x2 x3 x4 x5 r0 (0 : Int32) h) ∧ (¬ (2000 : Int32) < ((jfi h 223 r0) + (20 : Int32)) → W_X8_feed_19 D d Q r0 x1 x2 x3 x4 x5 r0 (1 : Int32) h))
theorem w_X8_feed_0 {D : JD} {d : Nat} {Q : JO → JH → Prop} {r0 : Nat} {x1 : Int32} {x2 : Int32} {x3 : Int32} {x4 : Int32} {x5 : Int32} {h : JH} (w : W_X8_feed_0 D d Q r0 x1 x2 x3 x4 x5 h) : JW D (d + 1) mX8_feed 0 [some (vR 41 r0), some (vI x1), some (vI x2), some (vI x3), some (vI x4), some (vI x5), none, none] [] h Q := by
  unfold W_X8_feed_0 at w
  refine jw_aload_n (pc' := 1) rfl rfl ?_
  refine jw_aload_n (pc' := 2) rfl rfl ?_
  obtain ⟨g_1, w⟩ := w
  refine jw_getI (pc' := 5) (F := 223) rfl rfl rfl rfl g_1 ?_
  refine jw_bipush (pc' := 7) (x := (20 : Int32)) rfl rfl ?_
  refine jw_iadd (pc' := 8) rfl ?_
  refine jw_sipush (pc' := 11) (x := (2000 : Int32)) rfl rfl ?_
  refine jw_icmp_gt (tgt := 18) (pc' := 14) rfl rfl (fun c_2 => ?_) (fun c_2 => ?_)
  · replace w := w.1 c_2
    refine jw_iconst (pc' := 19) (x := (0 : Int32)) rfl rfl ?_
    exact w_X8_feed_19 w
  · replace w := w.2 c_2
    refine jw_iconst (pc' := 15) (x := (1 : Int32)) rfl rfl ?_
    refine jw_goto (pc' := 19) rfl rfl ?_
    exact w_X8_feed_19 w
def T_X8_feed (D : JD) (d : Nat) (Q : JO → JH → Prop) (r0 : Nat) (x1 : Int32) (x2 : Int32) (x3 : Int32) (x4 : Int32) (x5 : Int32) (h : JH) : Prop := W_X8_feed_0 D d Q r0 x1 x2 x3 x4 x5 h
theorem t_X8_feed {D : JD} {d : Nat} {Q : JO → JH → Prop} {r0 : Nat} {x1 : Int32} {x2 : Int32} {x3 : Int32} {x4 : Int32} {x5 : Int32} {h : JH} (w : T_X8_feed D d Q r0 x1 x2 x3 x4 x5 h) : cX8_feed D (d + 1) r0 x1 x2 x3 x4 x5 h Q := by
  unfold T_X8_feed at w
  unfold cX8_feed
  exact w_X8_feed_0 w
def W_X8_good_10 (D : JD) (d : Nat) (Q : JO → JH → Prop) (x1 : Int32) (q0 : Nat) (s1 : Int32) (h : JH) : Prop :=
  q0 ≠ 0 ∧ ∀ h_2 : JH, h_2 = wfi h 236 q0 s1 → (jbo x1 ∧ (Q (.inl (some (vI x1))) h_2))
theorem w_X8_good_10 {D : JD} {d : Nat} {Q : JO → JH → Prop} {x1 : Int32} {q0 : Nat} {s1 : Int32} {h : JH} (w : W_X8_good_10 D d Q x1 q0 s1 h) : JW D (d + 1) mX8_good 10 [none, some (vI x1), none] [vI s1, vR 41 q0] h Q := by
  unfold W_X8_good_10 at w
  obtain ⟨g_1, w⟩ := w
  refine jw_putI' (pc' := 13) (F := 236) rfl rfl rfl (Or.inr rfl) (Or.inl rfl) rfl (rfl) (rfl) rfl g_1 (fun h_2 e_3 => ?_)
  replace w := w h_2 e_3
  refine jw_iload_n (pc' := 14) rfl rfl ?_
  obtain ⟨g_4, w⟩ := w
  exact jw_ireturn rfl rfl (g_4.nr) w
def W_X8_good_0 (D : JD) (d : Nat) (Q : JO → JH → Prop) (r0 : Nat) (x1 : Int32) (x2 : Int32) (h : JH) : Prop :=
  (x1 = 0 → W_X8_good_10 D d Q x1 r0 x2 h) ∧ (¬ x1 = 0 → W_X8_good_10 D d Q x1 r0 (0 : Int32) h)
theorem w_X8_good_0 {D : JD} {d : Nat} {Q : JO → JH → Prop} {r0 : Nat} {x1 : Int32} {x2 : Int32} {h : JH} (w : W_X8_good_0 D d Q r0 x1 x2 h) : JW D (d + 1) mX8_good 0 [some (vR 41 r0), some (vI x1), some (vI x2)] [] h Q := by
  unfold W_X8_good_0 at w
  refine jw_aload_n (pc' := 1) rfl rfl ?_
  refine jw_iload_n (pc' := 2) rfl rfl ?_
  refine jw_if_eq (tgt := 9) (pc' := 5) rfl rfl (fun c_1 => ?_) (fun c_1 => ?_)
  · replace w := w.1 c_1
    refine jw_iload_n (pc' := 10) rfl rfl ?_
    refine jw_gen (ls' := [none, some (vI x1), none]) (st' := [vI x2, vR 41 r0]) (And.intro (Or.inl rfl) (trivial)) (And.intro (Or.inl rfl) (And.intro (Or.inl rfl) (trivial))) ?_
    exact w_X8_good_10 w
  · replace w := w.2 c_1
    refine jw_iconst (pc' := 6) (x := (0 : Int32)) rfl rfl ?_
    refine jw_goto (pc' := 10) rfl rfl ?_
    refine jw_gen (ls' := [none, some (vI x1), none]) (st' := [vI (0 : Int32), vR 41 r0]) (And.intro (Or.inl rfl) (trivial)) (And.intro (Or.inl rfl) (And.intro (Or.inl rfl) (trivial))) ?_
    exact w_X8_good_10 w
def T_X8_good (D : JD) (d : Nat) (Q : JO → JH → Prop) (r0 : Nat) (x1 : Int32) (x2 : Int32) (h : JH) : Prop := W_X8_good_0 D d Q r0 x1 x2 h
theorem t_X8_good {D : JD} {d : Nat} {Q : JO → JH → Prop} {r0 : Nat} {x1 : Int32} {x2 : Int32} {h : JH} (w : T_X8_good D d Q r0 x1 x2 h) : cX8_good D (d + 1) r0 x1 x2 h Q := by
  unfold T_X8_good at w
  unfold cX8_good
  exact w_X8_good_0 w
def W_X8_end_18 (D : JD) (d : Nat) (Q : JO → JH → Prop) (r0 : Nat) (x1 : Int32) (q0 : Nat) (s1 : Int32) (h : JH) : Prop :=
  q0 ≠ 0 ∧ (cX8_good D d q0 s1 (1 : Int32) h (pI D h (fun v_4 h_2 => (¬ v_4 = 0 → r0 ≠ 0 ∧ ∀ h_7 : JH, h_7 = wfi h_2 223 r0 x1 → (Q (.inl (some (vI x1))) h_7)) ∧ (v_4 = 0 → Q (.inl (some (vI (0 : Int32)))) h_2)) (jth Q)))
theorem w_X8_end_18 {D : JD} {d : Nat} {Q : JO → JH → Prop} {r0 : Nat} {x1 : Int32} {q0 : Nat} {s1 : Int32} {h : JH} (w : W_X8_end_18 D d Q r0 x1 q0 s1 h) : JW D (d + 1) mX8_end 18 [some (vR 41 r0), some (vI x1)] [vI s1, vR 41 q0] h Q := by
  unfold W_X8_end_18 at w
  refine jw_iconst (pc' := 19) (x := (1 : Int32)) rfl rfl ?_
  obtain ⟨g_1, w⟩ := w
  refine jw_cI (st := []) (sa := [vR 41 q0, vI s1, vI (1 : Int32)]) okX8_good rfl rfl rfl rfl rfl rfl (jstp_virtual (sa := [vI s1, vI (1 : Int32)]) (st := []) (k := 0) rfl rfl sX8_good okX8_good g_1 (one41.k g_1) rfl rfl) w (fun v_4 h_2 _ _ w => ?_)
  refine jw_if_ne (tgt := 27) (pc' := 25) rfl rfl (fun c_5 => ?_) (fun c_5 => ?_)
  · replace w := w.1 c_5
    refine jw_aload_n (pc' := 28) rfl rfl ?_
    refine jw_iload_n (pc' := 29) rfl rfl ?_
    obtain ⟨g_6, w⟩ := w
    refine jw_putI' (pc' := 32) (F := 223) rfl rfl rfl (Or.inr rfl) (Or.inl rfl) rfl (rfl) (rfl) rfl g_6 (fun h_7 e_8 => ?_)
    replace w := w h_7 e_8
    refine jw_iload_n (pc' := 33) rfl rfl ?_
    exact jw_ireturn rfl rfl (rfl) w
  · replace w := w.2 c_5
    refine jw_iconst (pc' := 26) (x := (0 : Int32)) rfl rfl ?_
    exact jw_ireturn rfl rfl (rfl) w
def W_X8_end_17 (D : JD) (d : Nat) (Q : JO → JH → Prop) (r0 : Nat) (x1 : Int32) (q0 : Nat) (h : JH) : Prop :=
  W_X8_end_18 D d Q r0 x1 q0 (0 : Int32) h
theorem w_X8_end_17 {D : JD} {d : Nat} {Q : JO → JH → Prop} {r0 : Nat} {x1 : Int32} {q0 : Nat} {h : JH} (w : W_X8_end_17 D d Q r0 x1 q0 h) : JW D (d + 1) mX8_end 17 [some (vR 41 r0), some (vI x1)] [vR 41 q0] h Q := by
  unfold W_X8_end_17 at w
  refine jw_iconst (pc' := 18) (x := (0 : Int32)) rfl rfl ?_
  exact w_X8_end_18 w
def W_X8_end_0 (D : JD) (d : Nat) (Q : JO → JH → Prop) (r0 : Nat) (x1 : Int32) (h : JH) : Prop :=
  (x1 < 0 → W_X8_end_17 D d Q r0 x1 r0 h) ∧ (¬ x1 < 0 → r0 ≠ 0 ∧ (((jfi h 223 r0) < x1 → W_X8_end_17 D d Q r0 x1 r0 h) ∧ (¬ (jfi h 223 r0) < x1 → W_X8_end_18 D d Q r0 x1 r0 (1 : Int32) h)))
theorem w_X8_end_0 {D : JD} {d : Nat} {Q : JO → JH → Prop} {r0 : Nat} {x1 : Int32} {h : JH} (w : W_X8_end_0 D d Q r0 x1 h) : JW D (d + 1) mX8_end 0 [some (vR 41 r0), some (vI x1)] [] h Q := by
  unfold W_X8_end_0 at w
  refine jw_aload_n (pc' := 1) rfl rfl ?_
  refine jw_iload_n (pc' := 2) rfl rfl ?_
  refine jw_if_lt (tgt := 17) (pc' := 5) rfl rfl (fun c_1 => ?_) (fun c_1 => ?_)
  · replace w := w.1 c_1
    exact w_X8_end_17 w
  · replace w := w.2 c_1
    refine jw_iload_n (pc' := 6) rfl rfl ?_
    refine jw_aload_n (pc' := 7) rfl rfl ?_
    obtain ⟨g_2, w⟩ := w
    refine jw_getI (pc' := 10) (F := 223) rfl rfl rfl rfl g_2 ?_
    refine jw_icmp_gt (tgt := 17) (pc' := 13) rfl rfl (fun c_3 => ?_) (fun c_3 => ?_)
    · replace w := w.1 c_3
      exact w_X8_end_17 w
    · replace w := w.2 c_3
      refine jw_iconst (pc' := 14) (x := (1 : Int32)) rfl rfl ?_
      refine jw_goto (pc' := 18) rfl rfl ?_
      exact w_X8_end_18 w
def T_X8_end (D : JD) (d : Nat) (Q : JO → JH → Prop) (r0 : Nat) (x1 : Int32) (h : JH) : Prop := W_X8_end_0 D d Q r0 x1 h
theorem t_X8_end {D : JD} {d : Nat} {Q : JO → JH → Prop} {r0 : Nat} {x1 : Int32} {h : JH} (w : T_X8_end D d Q r0 x1 h) : cX8_end D (d + 1) r0 x1 h Q := by
  unfold T_X8_end at w
  unfold cX8_end
  exact w_X8_end_0 w
def W_X8_put_22 (D : JD) (d : Nat) (Q : JO → JH → Prop) (K22 : Nat → Int32 → Int32 → JH → Prop) (r0 : Nat) (x1 : Int32) (x2 : Int32) (h : JH) : Prop :=
  (x1 ≤ x2 → r0 ≠ 0 ∧ (Q (.inl (some (vI (jfi h 225 r0)))) h)) ∧ (¬ x1 ≤ x2 → r0 ≠ 0 ∧ ((jfr h 222 r0) ≠ 0 ∧ jin x2 (jln h (jfr h 222 r0)) ∧ (cX8_come D d r0 (jai h (jfr h 222 r0) (ixn x2)) h (pV D h (fun h_6 => K22 r0 x1 (x2 + (1 : Int32)) h_6) (jth Q)))))
theorem w_X8_put_22 {D : JD} {d : Nat} {Q : JO → JH → Prop} {K22 : Nat → Int32 → Int32 → JH → Prop} {r0 : Nat} {x1 : Int32} {x2 : Int32} {h : JH} (hK22 : ∀ (r0 : Nat) (x1 : Int32) (x2 : Int32) (h : JH), K22 r0 x1 x2 h → JW D (d + 1) mX8_put 22 [some (vR 41 r0), some (vI x1), some (vI x2)] [] h Q) (w : W_X8_put_22 D d Q K22 r0 x1 x2 h) : JW D (d + 1) mX8_put 22 [some (vR 41 r0), some (vI x1), some (vI x2)] [] h Q := by
  unfold W_X8_put_22 at w
  refine jw_iload_n (pc' := 23) rfl rfl ?_
  refine jw_iload_n (pc' := 24) rfl rfl ?_
  refine jw_icmp_ge (tgt := 43) (pc' := 27) rfl rfl (fun c_1 => ?_) (fun c_1 => ?_)
  · replace w := w.1 c_1
    refine jw_aload_n (pc' := 44) rfl rfl ?_
    obtain ⟨g_2, w⟩ := w
    refine jw_getI (pc' := 47) (F := 225) rfl rfl rfl rfl g_2 ?_
    exact jw_ireturn rfl rfl (rfl) w
  · replace w := w.2 c_1
    refine jw_aload_n (pc' := 28) rfl rfl ?_
    refine jw_aload_n (pc' := 29) rfl rfl ?_
    obtain ⟨g_3, w⟩ := w
    refine jw_getR (pc' := 32) (F := 222) (t' := 178) rfl rfl rfl rfl rfl g_3 ?_
    refine jw_iload_n (pc' := 33) rfl rfl ?_
    obtain ⟨g_4, w⟩ := w
    obtain ⟨g_5, w⟩ := w
    refine jw_bald (pc' := 34) rfl rfl rfl rfl g_4 g_5.ix g_5.2 ?_
    refine jw_cV (st := []) (sa := [vR 41 r0, vI (jai h (jfr h 222 r0) (ixn x2))]) okX8_come rfl rfl rfl rfl rfl rfl (jstp_virtual (sa := [vI (jai h (jfr h 222 r0) (ixn x2))]) (st := []) (k := 0) rfl rfl sX8_come okX8_come g_3 (one41.k g_3) rfl rfl) w (fun h_6 _ _ w => ?_)
    refine jw_iinc (pc' := 40) (y := x2 + (1 : Int32)) (ls' := [some (vR 41 r0), some (vI x1), some (vI (x2 + (1 : Int32)))]) rfl (by decide) rfl rfl rfl ?_
    refine jw_goto (pc' := 22) rfl rfl ?_
    exact hK22 _ _ _ _ w
def L_X8_put_22 (D : JD) (d : Nat) (Q : JO → JH → Prop) : Nat → Nat → Int32 → Int32 → JH → Prop
  | 0 => fun _ _ _ _ => False
  | n + 1 => fun r0 x1 x2 h => W_X8_put_22 D d Q (L_X8_put_22 D d Q n) r0 x1 x2 h
theorem l_X8_put_22 {D : JD} {d : Nat} {Q : JO → JH → Prop} : ∀ (n : Nat) (r0 : Nat) (x1 : Int32) (x2 : Int32) (h : JH), L_X8_put_22 D d Q n r0 x1 x2 h → JW D (d + 1) mX8_put 22 [some (vR 41 r0), some (vI x1), some (vI x2)] [] h Q := by
  intro n
  induction n with
  | zero => intro _ _ _ _ w; exact w.elim
  | succ n ih => intro _ _ _ h w; exact w_X8_put_22 ih w
def W_X8_put_0 (D : JD) (d : Nat) (Q : JO → JH → Prop) (r0 : Nat) (h : JH) : Prop :=
  r0 ≠ 0 ∧ (∀ h_2 : JH, h_2 = wfi h 223 r0 (0 : Int32) → (cX8_open D d r0 (jfi h 223 r0) h_2 (pI D h_2 (fun v_6 h_4 => (¬ v_6 = 0 → ∃ n, L_X8_put_22 D d Q n r0 (jfi h 223 r0) (0 : Int32) h_4) ∧ (v_6 = 0 → Q (.inl (some (vI (0 : Int32)))) h_4)) (jth Q))))
theorem w_X8_put_0 {D : JD} {d : Nat} {Q : JO → JH → Prop} {r0 : Nat} {h : JH} (w : W_X8_put_0 D d Q r0 h) : JW D (d + 1) mX8_put 0 [some (vR 41 r0), none, none] [] h Q := by
  unfold W_X8_put_0 at w
  refine jw_aload_n (pc' := 1) rfl rfl ?_
  obtain ⟨g_1, w⟩ := w
  refine jw_getI (pc' := 4) (F := 223) rfl rfl rfl rfl g_1 ?_
  refine jw_istore_n (pc' := 5) (ls' := [some (vR 41 r0), some (vI (jfi h 223 r0)), none]) rfl (by decide) rfl ?_
  refine jw_aload_n (pc' := 6) rfl rfl ?_
  refine jw_iconst (pc' := 7) (x := (0 : Int32)) rfl rfl ?_
  refine jw_putI' (pc' := 10) (F := 223) rfl rfl rfl (Or.inr rfl) (Or.inl rfl) rfl (rfl) (rfl) rfl g_1 (fun h_2 e_3 => ?_)
  replace w := w h_2 e_3
  refine jw_aload_n (pc' := 11) rfl rfl ?_
  refine jw_iload_n (pc' := 12) rfl rfl ?_
  refine jw_cI (st := []) (sa := [vR 41 r0, vI (jfi h 223 r0)]) okX8_open rfl rfl rfl rfl rfl rfl (jstp_virtual (sa := [vI (jfi h 223 r0)]) (st := []) (k := 0) rfl rfl sX8_open okX8_open g_1 (one41.k g_1) rfl rfl) w (fun v_6 h_4 _ _ w => ?_)
  refine jw_if_ne (tgt := 20) (pc' := 18) rfl rfl (fun c_7 => ?_) (fun c_7 => ?_)
  · replace w := w.1 c_7
    refine jw_iconst (pc' := 21) (x := (0 : Int32)) rfl rfl ?_
    refine jw_istore_n (pc' := 22) (ls' := [some (vR 41 r0), some (vI (jfi h 223 r0)), some (vI (0 : Int32))]) rfl (by decide) rfl ?_
    obtain ⟨n, w⟩ := w
    exact l_X8_put_22 n _ _ _ _ w
  · replace w := w.2 c_7
    refine jw_iconst (pc' := 19) (x := (0 : Int32)) rfl rfl ?_
    exact jw_ireturn rfl rfl (rfl) w
def T_X8_put (D : JD) (d : Nat) (Q : JO → JH → Prop) (r0 : Nat) (h : JH) : Prop := W_X8_put_0 D d Q r0 h
theorem t_X8_put {D : JD} {d : Nat} {Q : JO → JH → Prop} {r0 : Nat} {h : JH} (w : T_X8_put D d Q r0 h) : cX8_put D (d + 1) r0 h Q := by
  unfold T_X8_put at w
  unfold cX8_put
  exact w_X8_put_0 w
def W_X8_open_51 (D : JD) (d : Nat) (Q : JO → JH → Prop) (s0 : Int32) (h : JH) : Prop :=
  jbo s0 ∧ (Q (.inl (some (vI s0))) h)
theorem w_X8_open_51 {D : JD} {d : Nat} {Q : JO → JH → Prop} {s0 : Int32} {h : JH} (w : W_X8_open_51 D d Q s0 h) : JW D (d + 1) mX8_open 51 [none, none] [vI s0] h Q := by
  unfold W_X8_open_51 at w
  obtain ⟨g_1, w⟩ := w
  exact jw_ireturn rfl rfl (g_1.nr) w
def W_X8_open_50 (D : JD) (d : Nat) (Q : JO → JH → Prop) (h : JH) : Prop :=
  W_X8_open_51 D d Q (0 : Int32) h
theorem w_X8_open_50 {D : JD} {d : Nat} {Q : JO → JH → Prop} {h : JH} (w : W_X8_open_50 D d Q h) : JW D (d + 1) mX8_open 50 [none, none] [] h Q := by
  unfold W_X8_open_50 at w
  refine jw_iconst (pc' := 51) (x := (0 : Int32)) rfl rfl ?_
  exact w_X8_open_51 w
def W_X8_open_39 (D : JD) (d : Nat) (Q : JO → JH → Prop) (q0 : Nat) (s1 : Int32) (h : JH) : Prop :=
  q0 ≠ 0 ∧ (cX8_good D d q0 s1 (2 : Int32) h (pI D h (fun v_4 h_2 => (v_4 = 0 → W_X8_open_50 D d Q h_2) ∧ (¬ v_4 = 0 → W_X8_open_51 D d Q (1 : Int32) h_2)) (jth Q)))
theorem w_X8_open_39 {D : JD} {d : Nat} {Q : JO → JH → Prop} {q0 : Nat} {s1 : Int32} {h : JH} (w : W_X8_open_39 D d Q q0 s1 h) : JW D (d + 1) mX8_open 39 [none, none] [vI s1, vR 41 q0] h Q := by
  unfold W_X8_open_39 at w
  refine jw_iconst (pc' := 40) (x := (2 : Int32)) rfl rfl ?_
  obtain ⟨g_1, w⟩ := w
  refine jw_cI (st := []) (sa := [vR 41 q0, vI s1, vI (2 : Int32)]) okX8_good rfl rfl rfl rfl rfl rfl (jstp_virtual (sa := [vI s1, vI (2 : Int32)]) (st := []) (k := 0) rfl rfl sX8_good okX8_good g_1 (one41.k g_1) rfl rfl) w (fun v_4 h_2 _ _ w => ?_)
  refine jw_if_eq (tgt := 50) (pc' := 46) rfl rfl (fun c_5 => ?_) (fun c_5 => ?_)
  · replace w := w.1 c_5
    exact w_X8_open_50 w
  · replace w := w.2 c_5
    refine jw_iconst (pc' := 47) (x := (1 : Int32)) rfl rfl ?_
    refine jw_goto (pc' := 51) rfl rfl ?_
    exact w_X8_open_51 w
def W_X8_open_14 (D : JD) (d : Nat) (Q : JO → JH → Prop) (r0 : Nat) (x1 : Int32) (q0 : Nat) (s1 : Int32) (h : JH) : Prop :=
  q0 ≠ 0 ∧ (cX8_good D d q0 s1 (1 : Int32) h (pI D h (fun v_4 h_2 => (v_4 = 0 → W_X8_open_50 D d Q h_2) ∧ (¬ v_4 = 0 → r0 ≠ 0 ∧ (((8192 : Int32) < ((jfi h_2 225 r0) + x1) → W_X8_open_39 D d Q r0 (0 : Int32) h_2) ∧ (¬ (8192 : Int32) < ((jfi h_2 225 r0) + x1) → W_X8_open_39 D d Q r0 (1 : Int32) h_2)))) (jth Q)))
theorem w_X8_open_14 {D : JD} {d : Nat} {Q : JO → JH → Prop} {r0 : Nat} {x1 : Int32} {q0 : Nat} {s1 : Int32} {h : JH} (w : W_X8_open_14 D d Q r0 x1 q0 s1 h) : JW D (d + 1) mX8_open 14 [some (vR 41 r0), some (vI x1)] [vI s1, vR 41 q0] h Q := by
  unfold W_X8_open_14 at w
  refine jw_iconst (pc' := 15) (x := (1 : Int32)) rfl rfl ?_
  obtain ⟨g_1, w⟩ := w
  refine jw_cI (st := []) (sa := [vR 41 q0, vI s1, vI (1 : Int32)]) okX8_good rfl rfl rfl rfl rfl rfl (jstp_virtual (sa := [vI s1, vI (1 : Int32)]) (st := []) (k := 0) rfl rfl sX8_good okX8_good g_1 (one41.k g_1) rfl rfl) w (fun v_4 h_2 _ _ w => ?_)
  refine jw_if_eq (tgt := 50) (pc' := 21) rfl rfl (fun c_5 => ?_) (fun c_5 => ?_)
  · replace w := w.1 c_5
    refine jw_gen (ls' := [none, none]) (st' := []) (trivial) (trivial) ?_
    exact w_X8_open_50 w
  · replace w := w.2 c_5
    refine jw_aload_n (pc' := 22) rfl rfl ?_
    refine jw_aload_n (pc' := 23) rfl rfl ?_
    obtain ⟨g_6, w⟩ := w
    refine jw_getI (pc' := 26) (F := 225) rfl rfl rfl rfl g_6 ?_
    refine jw_iload_n (pc' := 27) rfl rfl ?_
    refine jw_iadd (pc' := 28) rfl ?_
    refine jw_sipush (pc' := 31) (x := (8192 : Int32)) rfl rfl ?_
    refine jw_icmp_gt (tgt := 38) (pc' := 34) rfl rfl (fun c_7 => ?_) (fun c_7 => ?_)
    · replace w := w.1 c_7
      refine jw_iconst (pc' := 39) (x := (0 : Int32)) rfl rfl ?_
      refine jw_gen (ls' := [none, none]) (st' := [vI (0 : Int32), vR 41 r0]) (trivial) (And.intro (Or.inl rfl) (And.intro (Or.inl rfl) (trivial))) ?_
      exact w_X8_open_39 w
    · replace w := w.2 c_7
      refine jw_iconst (pc' := 35) (x := (1 : Int32)) rfl rfl ?_
      refine jw_goto (pc' := 39) rfl rfl ?_
      refine jw_gen (ls' := [none, none]) (st' := [vI (1 : Int32), vR 41 r0]) (trivial) (And.intro (Or.inl rfl) (And.intro (Or.inl rfl) (trivial))) ?_
      exact w_X8_open_39 w
def W_X8_open_0 (D : JD) (d : Nat) (Q : JO → JH → Prop) (r0 : Nat) (x1 : Int32) (h : JH) : Prop :=
  r0 ≠ 0 ∧ (((jfi h 228 r0) = (5 : Int32) → W_X8_open_14 D d Q r0 x1 r0 (0 : Int32) h) ∧ (¬ (jfi h 228 r0) = (5 : Int32) → W_X8_open_14 D d Q r0 x1 r0 (1 : Int32) h))
theorem w_X8_open_0 {D : JD} {d : Nat} {Q : JO → JH → Prop} {r0 : Nat} {x1 : Int32} {h : JH} (w : W_X8_open_0 D d Q r0 x1 h) : JW D (d + 1) mX8_open 0 [some (vR 41 r0), some (vI x1)] [] h Q := by
  unfold W_X8_open_0 at w
  refine jw_aload_n (pc' := 1) rfl rfl ?_
  refine jw_aload_n (pc' := 2) rfl rfl ?_
  obtain ⟨g_1, w⟩ := w
  refine jw_getI (pc' := 5) (F := 228) rfl rfl rfl rfl g_1 ?_
  refine jw_iconst (pc' := 6) (x := (5 : Int32)) rfl rfl ?_
  refine jw_icmp_eq (tgt := 13) (pc' := 9) rfl rfl (fun c_2 => ?_) (fun c_2 => ?_)
  · replace w := w.1 c_2
    refine jw_iconst (pc' := 14) (x := (0 : Int32)) rfl rfl ?_
    exact w_X8_open_14 w
  · replace w := w.2 c_2
    refine jw_iconst (pc' := 10) (x := (1 : Int32)) rfl rfl ?_
    refine jw_goto (pc' := 14) rfl rfl ?_
    exact w_X8_open_14 w
def T_X8_open (D : JD) (d : Nat) (Q : JO → JH → Prop) (r0 : Nat) (x1 : Int32) (h : JH) : Prop := W_X8_open_0 D d Q r0 x1 h
theorem t_X8_open {D : JD} {d : Nat} {Q : JO → JH → Prop} {r0 : Nat} {x1 : Int32} {h : JH} (w : T_X8_open D d Q r0 x1 h) : cX8_open D (d + 1) r0 x1 h Q := by
  unfold T_X8_open at w
  unfold cX8_open
  exact w_X8_open_0 w
def W_X8_come_0 (D : JD) (d : Nat) (Q : JO → JH → Prop) (r0 : Nat) (x1 : Int32) (h : JH) : Prop :=
  r0 ≠ 0 ∧ ((jfr h 224 r0) ≠ 0 ∧ jin (jfi h 225 r0) (jln h (jfr h 224 r0)) ∧ ∀ h_4 : JH, h_4 = wai h (jfr h 224 r0) (ixn (jfi h 225 r0)) ((Int32.toInt8 ((Int32.toInt8 x1).toInt32)).toInt32) → (∀ h_6 : JH, h_6 = wfi h_4 225 r0 ((jfi h_4 225 r0) + (1 : Int32)) → (Q (.inl none) h_6)))
theorem w_X8_come_0 {D : JD} {d : Nat} {Q : JO → JH → Prop} {r0 : Nat} {x1 : Int32} {h : JH} (w : W_X8_come_0 D d Q r0 x1 h) : JW D (d + 1) mX8_come 0 [some (vR 41 r0), some (vI x1)] [] h Q := by
  unfold W_X8_come_0 at w
  refine jw_aload_n (pc' := 1) rfl rfl ?_
  obtain ⟨g_1, w⟩ := w
  refine jw_getR (pc' := 4) (F := 224) (t' := 179) rfl rfl rfl rfl rfl g_1 ?_
  refine jw_aload_n (pc' := 5) rfl rfl ?_
  refine jw_getI (pc' := 8) (F := 225) rfl rfl rfl rfl g_1 ?_
  refine jw_iload_n (pc' := 9) rfl rfl ?_
  refine jw_i2b (pc' := 10) rfl ?_
  obtain ⟨g_2, w⟩ := w
  obtain ⟨g_3, w⟩ := w
  refine jw_bast' (pc' := 11) rfl rfl rfl rfl rfl g_2 g_3 (fun h_4 e_5 => ?_)
  replace w := w h_4 e_5
  refine jw_aload_n (pc' := 12) rfl rfl ?_
  refine jw_dup (pc' := 13) rfl rfl ?_
  refine jw_getI (pc' := 16) (F := 225) rfl rfl rfl rfl g_1 ?_
  refine jw_iconst (pc' := 17) (x := (1 : Int32)) rfl rfl ?_
  refine jw_iadd (pc' := 18) rfl ?_
  refine jw_putI' (pc' := 21) (F := 225) rfl rfl rfl (Or.inr rfl) (Or.inl rfl) rfl (rfl) (rfl) rfl g_1 (fun h_6 e_7 => ?_)
  replace w := w h_6 e_7
  exact jw_return rfl rfl w
def T_X8_come (D : JD) (d : Nat) (Q : JO → JH → Prop) (r0 : Nat) (x1 : Int32) (h : JH) : Prop := W_X8_come_0 D d Q r0 x1 h
theorem t_X8_come {D : JD} {d : Nat} {Q : JO → JH → Prop} {r0 : Nat} {x1 : Int32} {h : JH} (w : T_X8_come D d Q r0 x1 h) : cX8_come D (d + 1) r0 x1 h Q := by
  unfold T_X8_come at w
  unfold cX8_come
  exact w_X8_come_0 w
def W_X8_ask_38 (D : JD) (d : Nat) (Q : JO → JH → Prop) (K38 : Nat → Int32 → Int32 → JH → Prop) (r0 : Nat) (x1 : Int32) (x2 : Int32) (h : JH) : Prop :=
  (x1 ≤ x2 → r0 ≠ 0 ∧ (cX8_come D d r0 (0 : Int32) h (pV D h (fun h_3 => Q (.inl (some (vI (jfi h_3 225 r0)))) h_3) (jth Q)))) ∧ (¬ x1 ≤ x2 → r0 ≠ 0 ∧ ((jfr h 222 r0) ≠ 0 ∧ jin x2 (jln h (jfr h 222 r0)) ∧ (cX8_come D d r0 (jai h (jfr h 222 r0) (ixn x2)) h (pV D h (fun h_9 => K38 r0 x1 (x2 + (1 : Int32)) h_9) (jth Q)))))
theorem w_X8_ask_38 {D : JD} {d : Nat} {Q : JO → JH → Prop} {K38 : Nat → Int32 → Int32 → JH → Prop} {r0 : Nat} {x1 : Int32} {x2 : Int32} {h : JH} (hK38 : ∀ (r0 : Nat) (x1 : Int32) (x2 : Int32) (h : JH), K38 r0 x1 x2 h → JW D (d + 1) mX8_ask 38 [some (vR 41 r0), some (vI x1), some (vI x2)] [] h Q) (w : W_X8_ask_38 D d Q K38 r0 x1 x2 h) : JW D (d + 1) mX8_ask 38 [some (vR 41 r0), some (vI x1), some (vI x2)] [] h Q := by
  unfold W_X8_ask_38 at w
  refine jw_iload_n (pc' := 39) rfl rfl ?_
  refine jw_iload_n (pc' := 40) rfl rfl ?_
  refine jw_icmp_ge (tgt := 59) (pc' := 43) rfl rfl (fun c_1 => ?_) (fun c_1 => ?_)
  · replace w := w.1 c_1
    refine jw_aload_n (pc' := 60) rfl rfl ?_
    refine jw_iconst (pc' := 61) (x := (0 : Int32)) rfl rfl ?_
    obtain ⟨g_2, w⟩ := w
    refine jw_cV (st := []) (sa := [vR 41 r0, vI (0 : Int32)]) okX8_come rfl rfl rfl rfl rfl rfl (jstp_virtual (sa := [vI (0 : Int32)]) (st := []) (k := 0) rfl rfl sX8_come okX8_come g_2 (one41.k g_2) rfl rfl) w (fun h_3 _ _ w => ?_)
    refine jw_aload_n (pc' := 65) rfl rfl ?_
    refine jw_getI (pc' := 68) (F := 225) rfl rfl rfl rfl g_2 ?_
    exact jw_ireturn rfl rfl (rfl) w
  · replace w := w.2 c_1
    refine jw_aload_n (pc' := 44) rfl rfl ?_
    refine jw_aload_n (pc' := 45) rfl rfl ?_
    obtain ⟨g_6, w⟩ := w
    refine jw_getR (pc' := 48) (F := 222) (t' := 178) rfl rfl rfl rfl rfl g_6 ?_
    refine jw_iload_n (pc' := 49) rfl rfl ?_
    obtain ⟨g_7, w⟩ := w
    obtain ⟨g_8, w⟩ := w
    refine jw_bald (pc' := 50) rfl rfl rfl rfl g_7 g_8.ix g_8.2 ?_
    refine jw_cV (st := []) (sa := [vR 41 r0, vI (jai h (jfr h 222 r0) (ixn x2))]) okX8_come rfl rfl rfl rfl rfl rfl (jstp_virtual (sa := [vI (jai h (jfr h 222 r0) (ixn x2))]) (st := []) (k := 0) rfl rfl sX8_come okX8_come g_6 (one41.k g_6) rfl rfl) w (fun h_9 _ _ w => ?_)
    refine jw_iinc (pc' := 56) (y := x2 + (1 : Int32)) (ls' := [some (vR 41 r0), some (vI x1), some (vI (x2 + (1 : Int32)))]) rfl (by decide) rfl rfl rfl ?_
    refine jw_goto (pc' := 38) rfl rfl ?_
    exact hK38 _ _ _ _ w
def L_X8_ask_38 (D : JD) (d : Nat) (Q : JO → JH → Prop) : Nat → Nat → Int32 → Int32 → JH → Prop
  | 0 => fun _ _ _ _ => False
  | n + 1 => fun r0 x1 x2 h => W_X8_ask_38 D d Q (L_X8_ask_38 D d Q n) r0 x1 x2 h
theorem l_X8_ask_38 {D : JD} {d : Nat} {Q : JO → JH → Prop} : ∀ (n : Nat) (r0 : Nat) (x1 : Int32) (x2 : Int32) (h : JH), L_X8_ask_38 D d Q n r0 x1 x2 h → JW D (d + 1) mX8_ask 38 [some (vR 41 r0), some (vI x1), some (vI x2)] [] h Q := by
  intro n
  induction n with
  | zero => intro _ _ _ _ w; exact w.elim
  | succ n ih => intro _ _ _ h w; exact w_X8_ask_38 ih w
def W_X8_ask_0 (D : JD) (d : Nat) (Q : JO → JH → Prop) (r0 : Nat) (h : JH) : Prop :=
  r0 ≠ 0 ∧ (∀ h_2 : JH, h_2 = wfi h 223 r0 (0 : Int32) → (cX8_open D d r0 ((jfi h 223 r0) + (6 : Int32)) h_2 (pI D h_2 (fun v_6 h_4 => (¬ v_6 = 0 → cX8_come D d r0 (81 : Int32) h_4 (pV D h_4 (fun h_8 => cX8_come4 D d r0 ((jfi h 223 r0) + (5 : Int32)) h_8 (pV D h_8 (fun h_11 => ∃ n, L_X8_ask_38 D d Q n r0 (jfi h 223 r0) (0 : Int32) h_11) (jth Q))) (jth Q))) ∧ (v_6 = 0 → Q (.inl (some (vI (0 : Int32)))) h_4)) (jth Q))))
theorem w_X8_ask_0 {D : JD} {d : Nat} {Q : JO → JH → Prop} {r0 : Nat} {h : JH} (w : W_X8_ask_0 D d Q r0 h) : JW D (d + 1) mX8_ask 0 [some (vR 41 r0), none, none] [] h Q := by
  unfold W_X8_ask_0 at w
  refine jw_aload_n (pc' := 1) rfl rfl ?_
  obtain ⟨g_1, w⟩ := w
  refine jw_getI (pc' := 4) (F := 223) rfl rfl rfl rfl g_1 ?_
  refine jw_istore_n (pc' := 5) (ls' := [some (vR 41 r0), some (vI (jfi h 223 r0)), none]) rfl (by decide) rfl ?_
  refine jw_aload_n (pc' := 6) rfl rfl ?_
  refine jw_iconst (pc' := 7) (x := (0 : Int32)) rfl rfl ?_
  refine jw_putI' (pc' := 10) (F := 223) rfl rfl rfl (Or.inr rfl) (Or.inl rfl) rfl (rfl) (rfl) rfl g_1 (fun h_2 e_3 => ?_)
  replace w := w h_2 e_3
  refine jw_aload_n (pc' := 11) rfl rfl ?_
  refine jw_iload_n (pc' := 12) rfl rfl ?_
  refine jw_bipush (pc' := 14) (x := (6 : Int32)) rfl rfl ?_
  refine jw_iadd (pc' := 15) rfl ?_
  refine jw_cI (st := []) (sa := [vR 41 r0, vI ((jfi h 223 r0) + (6 : Int32))]) okX8_open rfl rfl rfl rfl rfl rfl (jstp_virtual (sa := [vI ((jfi h 223 r0) + (6 : Int32))]) (st := []) (k := 0) rfl rfl sX8_open okX8_open g_1 (one41.k g_1) rfl rfl) w (fun v_6 h_4 _ _ w => ?_)
  refine jw_if_ne (tgt := 23) (pc' := 21) rfl rfl (fun c_7 => ?_) (fun c_7 => ?_)
  · replace w := w.1 c_7
    refine jw_aload_n (pc' := 24) rfl rfl ?_
    refine jw_bipush (pc' := 26) (x := (81 : Int32)) rfl rfl ?_
    refine jw_cV (st := []) (sa := [vR 41 r0, vI (81 : Int32)]) okX8_come rfl rfl rfl rfl rfl rfl (jstp_virtual (sa := [vI (81 : Int32)]) (st := []) (k := 0) rfl rfl sX8_come okX8_come g_1 (one41.k g_1) rfl rfl) w (fun h_8 _ _ w => ?_)
    refine jw_aload_n (pc' := 30) rfl rfl ?_
    refine jw_iload_n (pc' := 31) rfl rfl ?_
    refine jw_iconst (pc' := 32) (x := (5 : Int32)) rfl rfl ?_
    refine jw_iadd (pc' := 33) rfl ?_
    refine jw_cV (st := []) (sa := [vR 41 r0, vI ((jfi h 223 r0) + (5 : Int32))]) okX8_come4 rfl rfl rfl rfl rfl rfl (jstp_virtual (sa := [vI ((jfi h 223 r0) + (5 : Int32))]) (st := []) (k := 0) rfl rfl sX8_come4 okX8_come4 g_1 (one41.k g_1) rfl rfl) w (fun h_11 _ _ w => ?_)
    refine jw_iconst (pc' := 37) (x := (0 : Int32)) rfl rfl ?_
    refine jw_istore_n (pc' := 38) (ls' := [some (vR 41 r0), some (vI (jfi h 223 r0)), some (vI (0 : Int32))]) rfl (by decide) rfl ?_
    obtain ⟨n, w⟩ := w
    exact l_X8_ask_38 n _ _ _ _ w
  · replace w := w.2 c_7
    refine jw_iconst (pc' := 22) (x := (0 : Int32)) rfl rfl ?_
    exact jw_ireturn rfl rfl (rfl) w
def T_X8_ask (D : JD) (d : Nat) (Q : JO → JH → Prop) (r0 : Nat) (h : JH) : Prop := W_X8_ask_0 D d Q r0 h
theorem t_X8_ask {D : JD} {d : Nat} {Q : JO → JH → Prop} {r0 : Nat} {h : JH} (w : T_X8_ask D d Q r0 h) : cX8_ask D (d + 1) r0 h Q := by
  unfold T_X8_ask at w
  unfold cX8_ask
  exact w_X8_ask_0 w
def W_X8_come4_3 (D : JD) (d : Nat) (Q : JO → JH → Prop) (K3 : Nat → Int32 → Int32 → JH → Prop) (r0 : Nat) (x1 : Int32) (x2 : Int32) (h : JH) : Prop :=
  (x2 < 0 → Q (.inl none) h) ∧ (¬ x2 < 0 → r0 ≠ 0 ∧ (cX8_come D d r0 ((Int32.toUInt32 x1 >>> (Int32.toUInt32 x2 &&& Int32.toUInt32 31)).toInt32) h (pV D h (fun h_3 => K3 r0 x1 (x2 + (-8 : Int32)) h_3) (jth Q))))
theorem w_X8_come4_3 {D : JD} {d : Nat} {Q : JO → JH → Prop} {K3 : Nat → Int32 → Int32 → JH → Prop} {r0 : Nat} {x1 : Int32} {x2 : Int32} {h : JH} (hK3 : ∀ (r0 : Nat) (x1 : Int32) (x2 : Int32) (h : JH), K3 r0 x1 x2 h → JW D (d + 1) mX8_come4 3 [some (vR 41 r0), some (vI x1), some (vI x2)] [] h Q) (w : W_X8_come4_3 D d Q K3 r0 x1 x2 h) : JW D (d + 1) mX8_come4 3 [some (vR 41 r0), some (vI x1), some (vI x2)] [] h Q := by
  unfold W_X8_come4_3 at w
  refine jw_iload_n (pc' := 4) rfl rfl ?_
  refine jw_if_lt (tgt := 20) (pc' := 7) rfl rfl (fun c_1 => ?_) (fun c_1 => ?_)
  · replace w := w.1 c_1
    exact jw_return rfl rfl w
  · replace w := w.2 c_1
    refine jw_aload_n (pc' := 8) rfl rfl ?_
    refine jw_iload_n (pc' := 9) rfl rfl ?_
    refine jw_iload_n (pc' := 10) rfl rfl ?_
    refine jw_iushr (pc' := 11) rfl ?_
    obtain ⟨g_2, w⟩ := w
    refine jw_cV (st := []) (sa := [vR 41 r0, vI ((Int32.toUInt32 x1 >>> (Int32.toUInt32 x2 &&& Int32.toUInt32 31)).toInt32)]) okX8_come rfl rfl rfl rfl rfl rfl (jstp_virtual (sa := [vI ((Int32.toUInt32 x1 >>> (Int32.toUInt32 x2 &&& Int32.toUInt32 31)).toInt32)]) (st := []) (k := 0) rfl rfl sX8_come okX8_come g_2 (one41.k g_2) rfl rfl) w (fun h_3 _ _ w => ?_)
    refine jw_iinc (pc' := 17) (y := x2 + (-8 : Int32)) (ls' := [some (vR 41 r0), some (vI x1), some (vI (x2 + (-8 : Int32)))]) rfl (by decide) rfl rfl rfl ?_
    refine jw_goto (pc' := 3) rfl rfl ?_
    exact hK3 _ _ _ _ w
def L_X8_come4_3 (D : JD) (d : Nat) (Q : JO → JH → Prop) : Nat → Nat → Int32 → Int32 → JH → Prop
  | 0 => fun _ _ _ _ => False
  | n + 1 => fun r0 x1 x2 h => W_X8_come4_3 D d Q (L_X8_come4_3 D d Q n) r0 x1 x2 h
theorem l_X8_come4_3 {D : JD} {d : Nat} {Q : JO → JH → Prop} : ∀ (n : Nat) (r0 : Nat) (x1 : Int32) (x2 : Int32) (h : JH), L_X8_come4_3 D d Q n r0 x1 x2 h → JW D (d + 1) mX8_come4 3 [some (vR 41 r0), some (vI x1), some (vI x2)] [] h Q := by
  intro n
  induction n with
  | zero => intro _ _ _ _ w; exact w.elim
  | succ n ih => intro _ _ _ h w; exact w_X8_come4_3 ih w
def W_X8_come4_0 (D : JD) (d : Nat) (Q : JO → JH → Prop) (r0 : Nat) (x1 : Int32) (h : JH) : Prop :=
  ∃ n, L_X8_come4_3 D d Q n r0 x1 (24 : Int32) h
theorem w_X8_come4_0 {D : JD} {d : Nat} {Q : JO → JH → Prop} {r0 : Nat} {x1 : Int32} {h : JH} (w : W_X8_come4_0 D d Q r0 x1 h) : JW D (d + 1) mX8_come4 0 [some (vR 41 r0), some (vI x1), none] [] h Q := by
  unfold W_X8_come4_0 at w
  refine jw_bipush (pc' := 2) (x := (24 : Int32)) rfl rfl ?_
  refine jw_istore_n (pc' := 3) (ls' := [some (vR 41 r0), some (vI x1), some (vI (24 : Int32))]) rfl (by decide) rfl ?_
  obtain ⟨n, w⟩ := w
  exact l_X8_come4_3 n _ _ _ _ w
def T_X8_come4 (D : JD) (d : Nat) (Q : JO → JH → Prop) (r0 : Nat) (x1 : Int32) (h : JH) : Prop := W_X8_come4_0 D d Q r0 x1 h
theorem t_X8_come4 {D : JD} {d : Nat} {Q : JO → JH → Prop} {r0 : Nat} {x1 : Int32} {h : JH} (w : T_X8_come4 D d Q r0 x1 h) : cX8_come4 D (d + 1) r0 x1 h Q := by
  unfold T_X8_come4 at w
  unfold cX8_come4
  exact w_X8_come4_0 w
def W_X8_greet_26 (D : JD) (d : Nat) (Q : JO → JH → Prop) (K26 : Nat → Int32 → JH → Prop) (r0 : Nat) (x1 : Int32) (h : JH) : Prop :=
  ((4 : Int32) ≤ x1 → r0 ≠ 0 ∧ (cX8_come D d r0 (0 : Int32) h (pV D h (fun h_3 => cX8_come D d r0 (117 : Int32) h_3 (pV D h_3 (fun h_6 => cX8_come D d r0 (0 : Int32) h_6 (pV D h_6 (fun h_9 => cX8_come D d r0 (0 : Int32) h_9 (pV D h_9 (fun h_12 => cX8_come D d r0 (112 : Int32) h_12 (pV D h_12 (fun h_15 => cX8_come4 D d r0 (6 : Int32) h_15 (pV D h_15 (fun h_18 => cX8_come D d r0 (117 : Int32) h_18 (pV D h_18 (fun h_21 => cX8_come D d r0 (0 : Int32) h_21 (pV D h_21 (fun h_24 => Q (.inl (some (vI (jfi h_24 225 r0)))) h_24) (jth Q))) (jth Q))) (jth Q))) (jth Q))) (jth Q))) (jth Q))) (jth Q))) (jth Q)))) ∧ (¬ (4 : Int32) ≤ x1 → (jcs D 225) ≠ 0 ∧ (cJ5_charAt D d (jcs D 225) x1 h (pI D h (fun v_30 h_28 => r0 ≠ 0 ∧ (cX8_come D d r0 v_30 h_28 (pV D h_28 (fun h_32 => K26 r0 (x1 + (1 : Int32)) h_32) (jth Q)))) (jth Q))))
theorem w_X8_greet_26 {D : JD} {d : Nat} {Q : JO → JH → Prop} {K26 : Nat → Int32 → JH → Prop} {r0 : Nat} {x1 : Int32} {h : JH} (hK26 : ∀ (r0 : Nat) (x1 : Int32) (h : JH), K26 r0 x1 h → JW D (d + 1) mX8_greet 26 [some (vR 41 r0), some (vI x1)] [] h Q) (w : W_X8_greet_26 D d Q K26 r0 x1 h) : JW D (d + 1) mX8_greet 26 [some (vR 41 r0), some (vI x1)] [] h Q := by
  unfold W_X8_greet_26 at w
  refine jw_iload_n (pc' := 27) rfl rfl ?_
  refine jw_iconst (pc' := 28) (x := (4 : Int32)) rfl rfl ?_
  refine jw_icmp_ge (tgt := 48) (pc' := 31) rfl rfl (fun c_1 => ?_) (fun c_1 => ?_)
  · replace w := w.1 c_1
    refine jw_aload_n (pc' := 49) rfl rfl ?_
    refine jw_iconst (pc' := 50) (x := (0 : Int32)) rfl rfl ?_
    obtain ⟨g_2, w⟩ := w
    refine jw_cV (st := []) (sa := [vR 41 r0, vI (0 : Int32)]) okX8_come rfl rfl rfl rfl rfl rfl (jstp_virtual (sa := [vI (0 : Int32)]) (st := []) (k := 0) rfl rfl sX8_come okX8_come g_2 (one41.k g_2) rfl rfl) w (fun h_3 _ _ w => ?_)
    refine jw_aload_n (pc' := 54) rfl rfl ?_
    refine jw_bipush (pc' := 56) (x := (117 : Int32)) rfl rfl ?_
    refine jw_cV (st := []) (sa := [vR 41 r0, vI (117 : Int32)]) okX8_come rfl rfl rfl rfl rfl rfl (jstp_virtual (sa := [vI (117 : Int32)]) (st := []) (k := 0) rfl rfl sX8_come okX8_come g_2 (one41.k g_2) rfl rfl) w (fun h_6 _ _ w => ?_)
    refine jw_aload_n (pc' := 60) rfl rfl ?_
    refine jw_iconst (pc' := 61) (x := (0 : Int32)) rfl rfl ?_
    refine jw_cV (st := []) (sa := [vR 41 r0, vI (0 : Int32)]) okX8_come rfl rfl rfl rfl rfl rfl (jstp_virtual (sa := [vI (0 : Int32)]) (st := []) (k := 0) rfl rfl sX8_come okX8_come g_2 (one41.k g_2) rfl rfl) w (fun h_9 _ _ w => ?_)
    refine jw_aload_n (pc' := 65) rfl rfl ?_
    refine jw_iconst (pc' := 66) (x := (0 : Int32)) rfl rfl ?_
    refine jw_cV (st := []) (sa := [vR 41 r0, vI (0 : Int32)]) okX8_come rfl rfl rfl rfl rfl rfl (jstp_virtual (sa := [vI (0 : Int32)]) (st := []) (k := 0) rfl rfl sX8_come okX8_come g_2 (one41.k g_2) rfl rfl) w (fun h_12 _ _ w => ?_)
    refine jw_aload_n (pc' := 70) rfl rfl ?_
    refine jw_bipush (pc' := 72) (x := (112 : Int32)) rfl rfl ?_
    refine jw_cV (st := []) (sa := [vR 41 r0, vI (112 : Int32)]) okX8_come rfl rfl rfl rfl rfl rfl (jstp_virtual (sa := [vI (112 : Int32)]) (st := []) (k := 0) rfl rfl sX8_come okX8_come g_2 (one41.k g_2) rfl rfl) w (fun h_15 _ _ w => ?_)
    refine jw_aload_n (pc' := 76) rfl rfl ?_
    refine jw_bipush (pc' := 78) (x := (6 : Int32)) rfl rfl ?_
    refine jw_cV (st := []) (sa := [vR 41 r0, vI (6 : Int32)]) okX8_come4 rfl rfl rfl rfl rfl rfl (jstp_virtual (sa := [vI (6 : Int32)]) (st := []) (k := 0) rfl rfl sX8_come4 okX8_come4 g_2 (one41.k g_2) rfl rfl) w (fun h_18 _ _ w => ?_)
    refine jw_aload_n (pc' := 82) rfl rfl ?_
    refine jw_bipush (pc' := 84) (x := (117 : Int32)) rfl rfl ?_
    refine jw_cV (st := []) (sa := [vR 41 r0, vI (117 : Int32)]) okX8_come rfl rfl rfl rfl rfl rfl (jstp_virtual (sa := [vI (117 : Int32)]) (st := []) (k := 0) rfl rfl sX8_come okX8_come g_2 (one41.k g_2) rfl rfl) w (fun h_21 _ _ w => ?_)
    refine jw_aload_n (pc' := 88) rfl rfl ?_
    refine jw_iconst (pc' := 89) (x := (0 : Int32)) rfl rfl ?_
    refine jw_cV (st := []) (sa := [vR 41 r0, vI (0 : Int32)]) okX8_come rfl rfl rfl rfl rfl rfl (jstp_virtual (sa := [vI (0 : Int32)]) (st := []) (k := 0) rfl rfl sX8_come okX8_come g_2 (one41.k g_2) rfl rfl) w (fun h_24 _ _ w => ?_)
    refine jw_aload_n (pc' := 93) rfl rfl ?_
    refine jw_getI (pc' := 96) (F := 225) rfl rfl rfl rfl g_2 ?_
    exact jw_ireturn rfl rfl (rfl) w
  · replace w := w.2 c_1
    refine jw_aload_n (pc' := 32) rfl rfl ?_
    refine jw_ldcwS (pc' := 35) rfl rfl rfl rfl ?_
    refine jw_iload_n (pc' := 36) rfl rfl ?_
    obtain ⟨g_27, w⟩ := w
    refine jw_cI (st := [vR 41 r0]) (sa := [vR 51 (jcs D 225), vI x1]) okJ5_charAt rfl rfl rfl rfl rfl rfl (jstp_virtual (sa := [vI x1]) (st := [vR 41 r0]) (k := 0) rfl rfl sJ5_charAt okJ5_charAt g_27 (one51.k g_27) rfl rfl) w (fun v_30 h_28 _ _ w => ?_)
    obtain ⟨g_31, w⟩ := w
    refine jw_cV (st := []) (sa := [vR 41 r0, vI v_30]) okX8_come rfl rfl rfl rfl rfl rfl (jstp_virtual (sa := [vI v_30]) (st := []) (k := 0) rfl rfl sX8_come okX8_come g_31 (one41.k g_31) rfl rfl) w (fun h_32 _ _ w => ?_)
    refine jw_iinc (pc' := 45) (y := x1 + (1 : Int32)) (ls' := [some (vR 41 r0), some (vI (x1 + (1 : Int32)))]) rfl (by decide) rfl rfl rfl ?_
    refine jw_goto (pc' := 26) rfl rfl ?_
    exact hK26 _ _ _ w
def L_X8_greet_26 (D : JD) (d : Nat) (Q : JO → JH → Prop) : Nat → Nat → Int32 → JH → Prop
  | 0 => fun _ _ _ => False
  | n + 1 => fun r0 x1 h => W_X8_greet_26 D d Q (L_X8_greet_26 D d Q n) r0 x1 h
theorem l_X8_greet_26 {D : JD} {d : Nat} {Q : JO → JH → Prop} : ∀ (n : Nat) (r0 : Nat) (x1 : Int32) (h : JH), L_X8_greet_26 D d Q n r0 x1 h → JW D (d + 1) mX8_greet 26 [some (vR 41 r0), some (vI x1)] [] h Q := by
  intro n
  induction n with
  | zero => intro _ _ _ w; exact w.elim
  | succ n ih => intro _ _ h w; exact w_X8_greet_26 ih w
def W_X8_greet_0 (D : JD) (d : Nat) (Q : JO → JH → Prop) (r0 : Nat) (h : JH) : Prop :=
  r0 ≠ 0 ∧ (cX8_open D d r0 (23 : Int32) h (pI D h (fun v_4 h_2 => (¬ v_4 = 0 → cX8_come4 D d r0 (16 : Int32) h_2 (pV D h_2 (fun h_6 => cX8_come4 D d r0 (196608 : Int32) h_6 (pV D h_6 (fun h_9 => ∃ n, L_X8_greet_26 D d Q n r0 (0 : Int32) h_9) (jth Q))) (jth Q))) ∧ (v_4 = 0 → Q (.inl (some (vI (0 : Int32)))) h_2)) (jth Q)))
theorem w_X8_greet_0 {D : JD} {d : Nat} {Q : JO → JH → Prop} {r0 : Nat} {h : JH} (w : W_X8_greet_0 D d Q r0 h) : JW D (d + 1) mX8_greet 0 [some (vR 41 r0), none] [] h Q := by
  unfold W_X8_greet_0 at w
  refine jw_aload_n (pc' := 1) rfl rfl ?_
  refine jw_bipush (pc' := 3) (x := (23 : Int32)) rfl rfl ?_
  obtain ⟨g_1, w⟩ := w
  refine jw_cI (st := []) (sa := [vR 41 r0, vI (23 : Int32)]) okX8_open rfl rfl rfl rfl rfl rfl (jstp_virtual (sa := [vI (23 : Int32)]) (st := []) (k := 0) rfl rfl sX8_open okX8_open g_1 (one41.k g_1) rfl rfl) w (fun v_4 h_2 _ _ w => ?_)
  refine jw_if_ne (tgt := 11) (pc' := 9) rfl rfl (fun c_5 => ?_) (fun c_5 => ?_)
  · replace w := w.1 c_5
    refine jw_aload_n (pc' := 12) rfl rfl ?_
    refine jw_bipush (pc' := 14) (x := (16 : Int32)) rfl rfl ?_
    refine jw_cV (st := []) (sa := [vR 41 r0, vI (16 : Int32)]) okX8_come4 rfl rfl rfl rfl rfl rfl (jstp_virtual (sa := [vI (16 : Int32)]) (st := []) (k := 0) rfl rfl sX8_come4 okX8_come4 g_1 (one41.k g_1) rfl rfl) w (fun h_6 _ _ w => ?_)
    refine jw_aload_n (pc' := 18) rfl rfl ?_
    refine jw_ldcwI (pc' := 21) (v := (196608 : Int32)) rfl rfl (by decide +kernel) ?_
    refine jw_cV (st := []) (sa := [vR 41 r0, vI (196608 : Int32)]) okX8_come4 rfl rfl rfl rfl rfl rfl (jstp_virtual (sa := [vI (196608 : Int32)]) (st := []) (k := 0) rfl rfl sX8_come4 okX8_come4 g_1 (one41.k g_1) rfl rfl) w (fun h_9 _ _ w => ?_)
    refine jw_iconst (pc' := 25) (x := (0 : Int32)) rfl rfl ?_
    refine jw_istore_n (pc' := 26) (ls' := [some (vR 41 r0), some (vI (0 : Int32))]) rfl (by decide) rfl ?_
    obtain ⟨n, w⟩ := w
    exact l_X8_greet_26 n _ _ _ w
  · replace w := w.2 c_5
    refine jw_iconst (pc' := 10) (x := (0 : Int32)) rfl rfl ?_
    exact jw_ireturn rfl rfl (rfl) w
def T_X8_greet (D : JD) (d : Nat) (Q : JO → JH → Prop) (r0 : Nat) (h : JH) : Prop := W_X8_greet_0 D d Q r0 h
theorem t_X8_greet {D : JD} {d : Nat} {Q : JO → JH → Prop} {r0 : Nat} {h : JH} (w : T_X8_greet D d Q r0 h) : cX8_greet D (d + 1) r0 h Q := by
  unfold T_X8_greet at w
  unfold cX8_greet
  exact w_X8_greet_0 w
def W_X8_step_222 (D : JD) (d : Nat) (Q : JO → JH → Prop) (x4 : Int32) (h : JH) : Prop :=
  Q (.inl (some (vI x4))) h
theorem w_X8_step_222 {D : JD} {d : Nat} {Q : JO → JH → Prop} {x4 : Int32} {h : JH} (w : W_X8_step_222 D d Q x4 h) : JW D (d + 1) mX8_step 222 [none, none, none, none, some (vI x4), none] [] h Q := by
  unfold W_X8_step_222 at w
  refine jw_iload (pc' := 224) rfl rfl ?_
  exact jw_ireturn rfl rfl (rfl) w
def W_X8_step_207 (D : JD) (d : Nat) (Q : JO → JH → Prop) (r0 : Nat) (x1 : Int32) (x2 : Int32) (x4 : Int32) (h : JH) : Prop :=
  r0 ≠ 0 ∧ (((jfi h 228 r0) = (5 : Int32) → W_X8_step_222 D d Q x4 h) ∧ (¬ (jfi h 228 r0) = (5 : Int32) → cX8_gone D d r0 (x1 + x2) h (pV D h (fun h_3 => W_X8_step_222 D d Q x4 h_3) (jth Q))))
theorem w_X8_step_207 {D : JD} {d : Nat} {Q : JO → JH → Prop} {r0 : Nat} {x1 : Int32} {x2 : Int32} {x4 : Int32} {h : JH} (w : W_X8_step_207 D d Q r0 x1 x2 x4 h) : JW D (d + 1) mX8_step 207 [some (vR 41 r0), some (vI x1), some (vI x2), none, some (vI x4), none] [] h Q := by
  unfold W_X8_step_207 at w
  refine jw_aload_n (pc' := 208) rfl rfl ?_
  obtain ⟨g_1, w⟩ := w
  refine jw_getI (pc' := 211) (F := 228) rfl rfl rfl rfl g_1 ?_
  refine jw_iconst (pc' := 212) (x := (5 : Int32)) rfl rfl ?_
  refine jw_icmp_eq (tgt := 222) (pc' := 215) rfl rfl (fun c_2 => ?_) (fun c_2 => ?_)
  · replace w := w.1 c_2
    refine jw_gen (ls' := [none, none, none, none, some (vI x4), none]) (st' := []) (And.intro (Or.inl rfl) (trivial)) (trivial) ?_
    exact w_X8_step_222 w
  · replace w := w.2 c_2
    refine jw_aload_n (pc' := 216) rfl rfl ?_
    refine jw_iload_n (pc' := 217) rfl rfl ?_
    refine jw_iload_n (pc' := 218) rfl rfl ?_
    refine jw_iadd (pc' := 219) rfl ?_
    refine jw_cV (st := []) (sa := [vR 41 r0, vI (x1 + x2)]) okX8_gone rfl rfl rfl rfl rfl rfl (jstp_virtual (sa := [vI (x1 + x2)]) (st := []) (k := 0) rfl rfl sX8_gone okX8_gone g_1 (one41.k g_1) rfl rfl) w (fun h_3 _ _ w => ?_)
    refine jw_gen (ls' := [none, none, none, none, some (vI x4), none]) (st' := []) (And.intro (Or.inl rfl) (trivial)) (trivial) ?_
    exact w_X8_step_222 w
def W_X8_step_196 (D : JD) (d : Nat) (Q : JO → JH → Prop) (r0 : Nat) (x1 : Int32) (x2 : Int32) (x4 : Int32) (h : JH) : Prop :=
  W_X8_step_207 D d Q r0 x1 x2 x4 h
theorem w_X8_step_196 {D : JD} {d : Nat} {Q : JO → JH → Prop} {r0 : Nat} {x1 : Int32} {x2 : Int32} {x4 : Int32} {h : JH} (w : W_X8_step_196 D d Q r0 x1 x2 x4 h) : JW D (d + 1) mX8_step 196 [some (vR 41 r0), some (vI x1), some (vI x2), none, some (vI x4), none] [] h Q := by
  unfold W_X8_step_196 at w
  refine jw_goto (pc' := 207) rfl rfl ?_
  exact w_X8_step_207 w
def W_X8_step_199 (D : JD) (d : Nat) (Q : JO → JH → Prop) (r0 : Nat) (x1 : Int32) (x2 : Int32) (x4 : Int32) (q0 : Nat) (h : JH) : Prop :=
  r0 ≠ 0 ∧ (cX8_missed D d r0 q0 h (pV D h (fun h_2 => W_X8_step_207 D d Q r0 x1 x2 x4 h_2) (jth Q)))
theorem w_X8_step_199 {D : JD} {d : Nat} {Q : JO → JH → Prop} {r0 : Nat} {x1 : Int32} {x2 : Int32} {x4 : Int32} {q0 : Nat} {h : JH} (w : W_X8_step_199 D d Q r0 x1 x2 x4 q0 h) : JW D (d + 1) mX8_step 199 [some (vR 41 r0), some (vI x1), some (vI x2), none, some (vI x4), none] [vR 42 q0] h Q := by
  unfold W_X8_step_199 at w
  refine jw_astore (pc' := 201) (ls' := [some (vR 41 r0), some (vI x1), some (vI x2), none, some (vI x4), some (vR 42 q0)]) rfl (by decide) rfl ?_
  refine jw_aload_n (pc' := 202) rfl rfl ?_
  refine jw_aload (pc' := 204) rfl rfl ?_
  obtain ⟨g_1, w⟩ := w
  refine jw_cV (st := []) (sa := [vR 41 r0, vR 42 q0]) okX8_missed rfl rfl rfl rfl rfl rfl (jstp_virtual (sa := [vR 42 q0]) (st := []) (k := 0) rfl rfl sX8_missed okX8_missed g_1 (one41.k g_1) rfl rfl) w (fun h_2 _ _ w => ?_)
  refine jw_gen (ls' := [some (vR 41 r0), some (vI x1), some (vI x2), none, some (vI x4), none]) (st' := []) (And.intro (Or.inl rfl) (And.intro (Or.inl rfl) (And.intro (Or.inl rfl) (And.intro (Or.inl rfl) (trivial))))) (trivial) ?_
  exact w_X8_step_207 w
def W_X8_step_137 (D : JD) (d : Nat) (Q : JO → JH → Prop) (r0 : Nat) (x1 : Int32) (x2 : Int32) (s0 : Int32) (h : JH) : Prop :=
  r0 ≠ 0 ∧ ∀ h_2 : JH, h_2 = wfi h 238 r0 (x1 + (4 : Int32)) → (∀ h_4 : JH, h_4 = wfi h_2 239 r0 (x1 + x2) → (∀ h_6 : JH, h_6 = wfi h_4 240 r0 (0 : Int32) → ((¬ (jfi h_6 228 r0) = 0 → (¬ (jfi h_6 228 r0) = (1 : Int32) → cX8_message D d r0 s0 h_6 (pV D h_6 (fun h_10 => W_X8_step_196 D d Q r0 x1 x2 s0 h_10) (fun x_13 h_14 => (jkd h_14 x_13 = 42 ∧ W_X8_step_199 D d Q r0 x1 x2 s0 x_13 h_14)))) ∧ ((jfi h_6 228 r0) = (1 : Int32) → cX8_password D d r0 s0 h_6 (pV D h_6 (fun h_16 => W_X8_step_196 D d Q r0 x1 x2 s0 h_16) (fun x_19 h_20 => (jkd h_20 x_19 = 42 ∧ W_X8_step_199 D d Q r0 x1 x2 s0 x_19 h_20))))) ∧ ((jfi h_6 228 r0) = 0 → cX8_hello D d r0 x2 h_6 (pV D h_6 (fun h_22 => W_X8_step_196 D d Q r0 x1 x2 s0 h_22) (fun x_25 h_26 => (jkd h_26 x_25 = 42 ∧ W_X8_step_199 D d Q r0 x1 x2 s0 x_25 h_26)))))))
theorem w_X8_step_137 {D : JD} {d : Nat} {Q : JO → JH → Prop} {r0 : Nat} {x1 : Int32} {x2 : Int32} {s0 : Int32} {h : JH} (w : W_X8_step_137 D d Q r0 x1 x2 s0 h) : JW D (d + 1) mX8_step 137 [some (vR 41 r0), some (vI x1), some (vI x2), none, none, none] [vI s0] h Q := by
  unfold W_X8_step_137 at w
  refine jw_istore (pc' := 139) (ls' := [some (vR 41 r0), some (vI x1), some (vI x2), none, some (vI s0), none]) rfl (by decide) rfl ?_
  refine jw_aload_n (pc' := 140) rfl rfl ?_
  refine jw_iload_n (pc' := 141) rfl rfl ?_
  refine jw_iconst (pc' := 142) (x := (4 : Int32)) rfl rfl ?_
  refine jw_iadd (pc' := 143) rfl ?_
  obtain ⟨g_1, w⟩ := w
  refine jw_putI' (pc' := 146) (F := 238) rfl rfl rfl (Or.inr rfl) (Or.inl rfl) rfl (rfl) (rfl) rfl g_1 (fun h_2 e_3 => ?_)
  replace w := w h_2 e_3
  refine jw_aload_n (pc' := 147) rfl rfl ?_
  refine jw_iload_n (pc' := 148) rfl rfl ?_
  refine jw_iload_n (pc' := 149) rfl rfl ?_
  refine jw_iadd (pc' := 150) rfl ?_
  refine jw_putI' (pc' := 153) (F := 239) rfl rfl rfl (Or.inr rfl) (Or.inl rfl) rfl (rfl) (rfl) rfl g_1 (fun h_4 e_5 => ?_)
  replace w := w h_4 e_5
  refine jw_aload_n (pc' := 154) rfl rfl ?_
  refine jw_iconst (pc' := 155) (x := (0 : Int32)) rfl rfl ?_
  refine jw_putI' (pc' := 158) (F := 240) rfl rfl rfl (Or.inr rfl) (Or.inl rfl) rfl (rfl) (rfl) rfl g_1 (fun h_6 e_7 => ?_)
  replace w := w h_6 e_7
  refine jw_aload_n (pc' := 159) rfl rfl ?_
  refine jw_getI (pc' := 162) (F := 228) rfl rfl rfl rfl g_1 ?_
  refine jw_if_ne (tgt := 173) (pc' := 165) rfl rfl (fun c_8 => ?_) (fun c_8 => ?_)
  · replace w := w.1 c_8
    refine jw_aload_n (pc' := 174) rfl rfl ?_
    refine jw_getI (pc' := 177) (F := 228) rfl rfl rfl rfl g_1 ?_
    refine jw_iconst (pc' := 178) (x := (1 : Int32)) rfl rfl ?_
    refine jw_icmp_ne (tgt := 190) (pc' := 181) rfl rfl (fun c_9 => ?_) (fun c_9 => ?_)
    · replace w := w.1 c_9
      refine jw_aload_n (pc' := 191) rfl rfl ?_
      refine jw_iload (pc' := 193) rfl rfl ?_
      refine jw_cVH (st := []) (sa := [vR 41 r0, vI s0]) okX8_message rfl rfl rfl rfl rfl (jstp_virtual (sa := [vI s0]) (st := []) (k := 0) rfl rfl sX8_message okX8_message g_1 (one41.k g_1) rfl rfl) w (fun h_10 _ _ w => ?_) (fun x_13 h_14 _ _ w => ?_)
      · exact w_X8_step_196 w
      · obtain ⟨e_15, w⟩ := w
        refine ⟨199, by rw [e_15]; rfl, by rw [e_15]; rfl, ?_⟩
        rw [e_15]
        exact w_X8_step_199 w
    · replace w := w.2 c_9
      refine jw_aload_n (pc' := 182) rfl rfl ?_
      refine jw_iload (pc' := 184) rfl rfl ?_
      refine jw_cVH (st := []) (sa := [vR 41 r0, vI s0]) okX8_password rfl rfl rfl rfl rfl (jstp_virtual (sa := [vI s0]) (st := []) (k := 0) rfl rfl sX8_password okX8_password g_1 (one41.k g_1) rfl rfl) w (fun h_16 _ _ w => ?_) (fun x_19 h_20 _ _ w => ?_)
      · refine jw_goto (pc' := 196) rfl rfl ?_
        exact w_X8_step_196 w
      · obtain ⟨e_21, w⟩ := w
        refine ⟨199, by rw [e_21]; rfl, by rw [e_21]; rfl, ?_⟩
        rw [e_21]
        exact w_X8_step_199 w
  · replace w := w.2 c_8
    refine jw_aload_n (pc' := 166) rfl rfl ?_
    refine jw_iload_n (pc' := 167) rfl rfl ?_
    refine jw_cVH (st := []) (sa := [vR 41 r0, vI x2]) okX8_hello rfl rfl rfl rfl rfl (jstp_virtual (sa := [vI x2]) (st := []) (k := 0) rfl rfl sX8_hello okX8_hello g_1 (one41.k g_1) rfl rfl) w (fun h_22 _ _ w => ?_) (fun x_25 h_26 _ _ w => ?_)
    · refine jw_goto (pc' := 196) rfl rfl ?_
      exact w_X8_step_196 w
    · obtain ⟨e_27, w⟩ := w
      refine ⟨199, by rw [e_27]; rfl, by rw [e_27]; rfl, ?_⟩
      rw [e_27]
      exact w_X8_step_199 w
def W_X8_step_97 (D : JD) (d : Nat) (Q : JO → JH → Prop) (r0 : Nat) (x1 : Int32) (x2 : Int32) (s0 : Int32) (h : JH) : Prop :=
  (¬ s0 = 0 → r0 ≠ 0 ∧ (((x1 + x2) ≤ (jfi h 225 r0) → (¬ (jfi h 228 r0) = 0 → cX8_b D d r0 (0 : Int32) h (pI D h (fun v_7 h_5 => W_X8_step_137 D d Q r0 x1 x2 v_7 h_5) (jth Q))) ∧ ((jfi h 228 r0) = 0 → W_X8_step_137 D d Q r0 x1 x2 (0 : Int32) h)) ∧ (¬ (x1 + x2) ≤ (jfi h 225 r0) → Q (.inl (some (vI (-1 : Int32)))) h))) ∧ (s0 = 0 → r0 ≠ 0 ∧ (cX8_shut D d r0 h (pV D h (fun h_9 => Q (.inl (some (vI (-2 : Int32)))) h_9) (jth Q))))
theorem w_X8_step_97 {D : JD} {d : Nat} {Q : JO → JH → Prop} {r0 : Nat} {x1 : Int32} {x2 : Int32} {s0 : Int32} {h : JH} (w : W_X8_step_97 D d Q r0 x1 x2 s0 h) : JW D (d + 1) mX8_step 97 [some (vR 41 r0), some (vI x1), some (vI x2), none, none, none] [vI s0] h Q := by
  unfold W_X8_step_97 at w
  refine jw_istore_n (pc' := 98) (ls' := [some (vR 41 r0), some (vI x1), some (vI x2), some (vI s0), none, none]) rfl (by decide) rfl ?_
  refine jw_iload_n (pc' := 99) rfl rfl ?_
  refine jw_if_ne (tgt := 109) (pc' := 102) rfl rfl (fun c_1 => ?_) (fun c_1 => ?_)
  · replace w := w.1 c_1
    refine jw_aload_n (pc' := 110) rfl rfl ?_
    obtain ⟨g_2, w⟩ := w
    refine jw_getI (pc' := 113) (F := 225) rfl rfl rfl rfl g_2 ?_
    refine jw_iload_n (pc' := 114) rfl rfl ?_
    refine jw_iload_n (pc' := 115) rfl rfl ?_
    refine jw_iadd (pc' := 116) rfl ?_
    refine jw_icmp_ge (tgt := 121) (pc' := 119) rfl rfl (fun c_3 => ?_) (fun c_3 => ?_)
    · replace w := w.1 c_3
      refine jw_aload_n (pc' := 122) rfl rfl ?_
      refine jw_getI (pc' := 125) (F := 228) rfl rfl rfl rfl g_2 ?_
      refine jw_if_ne (tgt := 132) (pc' := 128) rfl rfl (fun c_4 => ?_) (fun c_4 => ?_)
      · replace w := w.1 c_4
        refine jw_aload_n (pc' := 133) rfl rfl ?_
        refine jw_iconst (pc' := 134) (x := (0 : Int32)) rfl rfl ?_
        refine jw_cI (st := []) (sa := [vR 41 r0, vI (0 : Int32)]) okX8_b rfl rfl rfl rfl rfl rfl (jstp_virtual (sa := [vI (0 : Int32)]) (st := []) (k := 0) rfl rfl sX8_b okX8_b g_2 (one41.k g_2) rfl rfl) w (fun v_7 h_5 _ _ w => ?_)
        refine jw_gen (ls' := [some (vR 41 r0), some (vI x1), some (vI x2), none, none, none]) (st' := [vI v_7]) (And.intro (Or.inl rfl) (And.intro (Or.inl rfl) (And.intro (Or.inl rfl) (trivial)))) (And.intro (Or.inl rfl) (trivial)) ?_
        exact w_X8_step_137 w
      · replace w := w.2 c_4
        refine jw_iconst (pc' := 129) (x := (0 : Int32)) rfl rfl ?_
        refine jw_goto (pc' := 137) rfl rfl ?_
        refine jw_gen (ls' := [some (vR 41 r0), some (vI x1), some (vI x2), none, none, none]) (st' := [vI (0 : Int32)]) (And.intro (Or.inl rfl) (And.intro (Or.inl rfl) (And.intro (Or.inl rfl) (trivial)))) (And.intro (Or.inl rfl) (trivial)) ?_
        exact w_X8_step_137 w
    · replace w := w.2 c_3
      refine jw_iconst (pc' := 120) (x := (-1 : Int32)) rfl rfl ?_
      exact jw_ireturn rfl rfl (rfl) w
  · replace w := w.2 c_1
    refine jw_aload_n (pc' := 103) rfl rfl ?_
    obtain ⟨g_8, w⟩ := w
    refine jw_cV (st := []) (sa := [vR 41 r0]) okX8_shut rfl rfl rfl rfl rfl rfl (jstp_virtual (sa := []) (st := []) (k := 0) rfl rfl sX8_shut okX8_shut g_8 (one41.k g_8) rfl rfl) w (fun h_9 _ _ w => ?_)
    refine jw_bipush (pc' := 108) (x := (-2 : Int32)) rfl rfl ?_
    exact jw_ireturn rfl rfl (rfl) w
def W_X8_step_96 (D : JD) (d : Nat) (Q : JO → JH → Prop) (r0 : Nat) (x1 : Int32) (x2 : Int32) (h : JH) : Prop :=
  W_X8_step_97 D d Q r0 x1 x2 (0 : Int32) h
theorem w_X8_step_96 {D : JD} {d : Nat} {Q : JO → JH → Prop} {r0 : Nat} {x1 : Int32} {x2 : Int32} {h : JH} (w : W_X8_step_96 D d Q r0 x1 x2 h) : JW D (d + 1) mX8_step 96 [some (vR 41 r0), some (vI x1), some (vI x2), none, none, none] [] h Q := by
  unfold W_X8_step_96 at w
  refine jw_iconst (pc' := 97) (x := (0 : Int32)) rfl rfl ?_
  exact w_X8_step_97 w
def W_X8_step_76 (D : JD) (d : Nat) (Q : JO → JH → Prop) (r0 : Nat) (x1 : Int32) (x2 : Int32) (h : JH) : Prop :=
  W_X8_step_97 D d Q r0 x1 x2 (0 : Int32) h
theorem w_X8_step_76 {D : JD} {d : Nat} {Q : JO → JH → Prop} {r0 : Nat} {x1 : Int32} {x2 : Int32} {h : JH} (w : W_X8_step_76 D d Q r0 x1 x2 h) : JW D (d + 1) mX8_step 76 [some (vR 41 r0), some (vI x1), some (vI x2), none, none, none] [] h Q := by
  unfold W_X8_step_76 at w
  refine jw_iconst (pc' := 77) (x := (0 : Int32)) rfl rfl ?_
  refine jw_goto (pc' := 97) rfl rfl ?_
  exact w_X8_step_97 w
def W_X8_step_33 (D : JD) (d : Nat) (Q : JO → JH → Prop) (r0 : Nat) (s0 : Int32) (h : JH) : Prop :=
  r0 ≠ 0 ∧ (((s0 + (4 : Int32)) ≤ (jfi h 225 r0) → cX8_four D d r0 s0 h (pI D h (fun v_5 h_3 => (¬ (jfi h_3 228 r0) = 0 → (v_5 < (4 : Int32) → W_X8_step_96 D d Q r0 s0 v_5 h_3) ∧ (¬ v_5 < (4 : Int32) → ((4000 : Int32) < v_5 → W_X8_step_96 D d Q r0 s0 v_5 h_3) ∧ (¬ (4000 : Int32) < v_5 → W_X8_step_97 D d Q r0 s0 v_5 (1 : Int32) h_3))) ∧ ((jfi h_3 228 r0) = 0 → (v_5 < (8 : Int32) → W_X8_step_76 D d Q r0 s0 v_5 h_3) ∧ (¬ v_5 < (8 : Int32) → ((1000 : Int32) < v_5 → W_X8_step_76 D d Q r0 s0 v_5 h_3) ∧ (¬ (1000 : Int32) < v_5 → W_X8_step_97 D d Q r0 s0 v_5 (1 : Int32) h_3)))) (jth Q))) ∧ (¬ (s0 + (4 : Int32)) ≤ (jfi h 225 r0) → Q (.inl (some (vI (-1 : Int32)))) h))
theorem w_X8_step_33 {D : JD} {d : Nat} {Q : JO → JH → Prop} {r0 : Nat} {s0 : Int32} {h : JH} (w : W_X8_step_33 D d Q r0 s0 h) : JW D (d + 1) mX8_step 33 [some (vR 41 r0), none, none, none, none, none] [vI s0] h Q := by
  unfold W_X8_step_33 at w
  refine jw_istore_n (pc' := 34) (ls' := [some (vR 41 r0), some (vI s0), none, none, none, none]) rfl (by decide) rfl ?_
  refine jw_aload_n (pc' := 35) rfl rfl ?_
  obtain ⟨g_1, w⟩ := w
  refine jw_getI (pc' := 38) (F := 225) rfl rfl rfl rfl g_1 ?_
  refine jw_iload_n (pc' := 39) rfl rfl ?_
  refine jw_iconst (pc' := 40) (x := (4 : Int32)) rfl rfl ?_
  refine jw_iadd (pc' := 41) rfl ?_
  refine jw_icmp_ge (tgt := 46) (pc' := 44) rfl rfl (fun c_2 => ?_) (fun c_2 => ?_)
  · replace w := w.1 c_2
    refine jw_aload_n (pc' := 47) rfl rfl ?_
    refine jw_iload_n (pc' := 48) rfl rfl ?_
    refine jw_cI (st := []) (sa := [vR 41 r0, vI s0]) okX8_four rfl rfl rfl rfl rfl rfl (jstp_virtual (sa := [vI s0]) (st := []) (k := 0) rfl rfl sX8_four okX8_four g_1 (one41.k g_1) rfl rfl) w (fun v_5 h_3 _ _ w => ?_)
    refine jw_istore_n (pc' := 52) (ls' := [some (vR 41 r0), some (vI s0), some (vI v_5), none, none, none]) rfl (by decide) rfl ?_
    refine jw_aload_n (pc' := 53) rfl rfl ?_
    refine jw_getI (pc' := 56) (F := 228) rfl rfl rfl rfl g_1 ?_
    refine jw_if_ne (tgt := 80) (pc' := 59) rfl rfl (fun c_6 => ?_) (fun c_6 => ?_)
    · replace w := w.1 c_6
      refine jw_iload_n (pc' := 81) rfl rfl ?_
      refine jw_iconst (pc' := 82) (x := (4 : Int32)) rfl rfl ?_
      refine jw_icmp_lt (tgt := 96) (pc' := 85) rfl rfl (fun c_7 => ?_) (fun c_7 => ?_)
      · replace w := w.1 c_7
        exact w_X8_step_96 w
      · replace w := w.2 c_7
        refine jw_iload_n (pc' := 86) rfl rfl ?_
        refine jw_sipush (pc' := 89) (x := (4000 : Int32)) rfl rfl ?_
        refine jw_icmp_gt (tgt := 96) (pc' := 92) rfl rfl (fun c_8 => ?_) (fun c_8 => ?_)
        · replace w := w.1 c_8
          exact w_X8_step_96 w
        · replace w := w.2 c_8
          refine jw_iconst (pc' := 93) (x := (1 : Int32)) rfl rfl ?_
          refine jw_goto (pc' := 97) rfl rfl ?_
          exact w_X8_step_97 w
    · replace w := w.2 c_6
      refine jw_iload_n (pc' := 60) rfl rfl ?_
      refine jw_bipush (pc' := 62) (x := (8 : Int32)) rfl rfl ?_
      refine jw_icmp_lt (tgt := 76) (pc' := 65) rfl rfl (fun c_9 => ?_) (fun c_9 => ?_)
      · replace w := w.1 c_9
        exact w_X8_step_76 w
      · replace w := w.2 c_9
        refine jw_iload_n (pc' := 66) rfl rfl ?_
        refine jw_sipush (pc' := 69) (x := (1000 : Int32)) rfl rfl ?_
        refine jw_icmp_gt (tgt := 76) (pc' := 72) rfl rfl (fun c_10 => ?_) (fun c_10 => ?_)
        · replace w := w.1 c_10
          exact w_X8_step_76 w
        · replace w := w.2 c_10
          refine jw_iconst (pc' := 73) (x := (1 : Int32)) rfl rfl ?_
          refine jw_goto (pc' := 97) rfl rfl ?_
          exact w_X8_step_97 w
  · replace w := w.2 c_2
    refine jw_iconst (pc' := 45) (x := (-1 : Int32)) rfl rfl ?_
    exact jw_ireturn rfl rfl (rfl) w
def W_X8_step_0 (D : JD) (d : Nat) (Q : JO → JH → Prop) (r0 : Nat) (h : JH) : Prop :=
  r0 ≠ 0 ∧ ∀ h_2 : JH, h_2 = wfi h 227 r0 (0 : Int32) → (∀ h_4 : JH, h_4 = wfi h_2 236 r0 (0 : Int32) → ((¬ (jfi h_4 228 r0) = (5 : Int32) → (¬ (jfi h_4 228 r0) = 0 → W_X8_step_33 D d Q r0 (1 : Int32) h_4) ∧ ((jfi h_4 228 r0) = 0 → W_X8_step_33 D d Q r0 (0 : Int32) h_4)) ∧ ((jfi h_4 228 r0) = (5 : Int32) → Q (.inl (some (vI (-2 : Int32)))) h_4)))
theorem w_X8_step_0 {D : JD} {d : Nat} {Q : JO → JH → Prop} {r0 : Nat} {h : JH} (w : W_X8_step_0 D d Q r0 h) : JW D (d + 1) mX8_step 0 [some (vR 41 r0), none, none, none, none, none] [] h Q := by
  unfold W_X8_step_0 at w
  refine jw_aload_n (pc' := 1) rfl rfl ?_
  refine jw_iconst (pc' := 2) (x := (0 : Int32)) rfl rfl ?_
  obtain ⟨g_1, w⟩ := w
  refine jw_putI' (pc' := 5) (F := 227) rfl rfl rfl (Or.inr rfl) (Or.inl rfl) rfl (rfl) (rfl) rfl g_1 (fun h_2 e_3 => ?_)
  replace w := w h_2 e_3
  refine jw_aload_n (pc' := 6) rfl rfl ?_
  refine jw_iconst (pc' := 7) (x := (0 : Int32)) rfl rfl ?_
  refine jw_putI' (pc' := 10) (F := 236) rfl rfl rfl (Or.inr rfl) (Or.inl rfl) rfl (rfl) (rfl) rfl g_1 (fun h_4 e_5 => ?_)
  replace w := w h_4 e_5
  refine jw_aload_n (pc' := 11) rfl rfl ?_
  refine jw_getI (pc' := 14) (F := 228) rfl rfl rfl rfl g_1 ?_
  refine jw_iconst (pc' := 15) (x := (5 : Int32)) rfl rfl ?_
  refine jw_icmp_ne (tgt := 21) (pc' := 18) rfl rfl (fun c_6 => ?_) (fun c_6 => ?_)
  · replace w := w.1 c_6
    refine jw_aload_n (pc' := 22) rfl rfl ?_
    refine jw_getI (pc' := 25) (F := 228) rfl rfl rfl rfl g_1 ?_
    refine jw_if_ne (tgt := 32) (pc' := 28) rfl rfl (fun c_7 => ?_) (fun c_7 => ?_)
    · replace w := w.1 c_7
      refine jw_iconst (pc' := 33) (x := (1 : Int32)) rfl rfl ?_
      exact w_X8_step_33 w
    · replace w := w.2 c_7
      refine jw_iconst (pc' := 29) (x := (0 : Int32)) rfl rfl ?_
      refine jw_goto (pc' := 33) rfl rfl ?_
      exact w_X8_step_33 w
  · replace w := w.2 c_6
    refine jw_bipush (pc' := 20) (x := (-2 : Int32)) rfl rfl ?_
    exact jw_ireturn rfl rfl (rfl) w
def T_X8_step (D : JD) (d : Nat) (Q : JO → JH → Prop) (r0 : Nat) (h : JH) : Prop := W_X8_step_0 D d Q r0 h
theorem t_X8_step {D : JD} {d : Nat} {Q : JO → JH → Prop} {r0 : Nat} {h : JH} (w : T_X8_step D d Q r0 h) : cX8_step D (d + 1) r0 h Q := by
  unfold T_X8_step at w
  unfold cX8_step
  exact w_X8_step_0 w
def W_X8_four_0 (D : JD) (d : Nat) (Q : JO → JH → Prop) (r0 : Nat) (x1 : Int32) (h : JH) : Prop :=
  r0 ≠ 0 ∧ (cX8_b D d r0 x1 h (pI D h (fun v_4 h_2 => cX8_b D d r0 (x1 + (1 : Int32)) h_2 (pI D h_2 (fun v_7 h_5 => cX8_b D d r0 (x1 + (2 : Int32)) h_5 (pI D h_5 (fun v_10 h_8 => cX8_b D d r0 (x1 + (3 : Int32)) h_8 (pI D h_8 (fun v_13 h_11 => Q (.inl (some (vI ((((v_4 <<< ((24 : Int32) &&& 31)) ||| (v_7 <<< ((16 : Int32) &&& 31))) ||| (v_10 <<< ((8 : Int32) &&& 31))) ||| v_13)))) h_11) (jth Q))) (jth Q))) (jth Q))) (jth Q)))
theorem w_X8_four_0 {D : JD} {d : Nat} {Q : JO → JH → Prop} {r0 : Nat} {x1 : Int32} {h : JH} (w : W_X8_four_0 D d Q r0 x1 h) : JW D (d + 1) mX8_four 0 [some (vR 41 r0), some (vI x1)] [] h Q := by
  unfold W_X8_four_0 at w
  refine jw_aload_n (pc' := 1) rfl rfl ?_
  refine jw_iload_n (pc' := 2) rfl rfl ?_
  obtain ⟨g_1, w⟩ := w
  refine jw_cI (st := []) (sa := [vR 41 r0, vI x1]) okX8_b rfl rfl rfl rfl rfl rfl (jstp_virtual (sa := [vI x1]) (st := []) (k := 0) rfl rfl sX8_b okX8_b g_1 (one41.k g_1) rfl rfl) w (fun v_4 h_2 _ _ w => ?_)
  refine jw_bipush (pc' := 7) (x := (24 : Int32)) rfl rfl ?_
  refine jw_ishl (pc' := 8) rfl ?_
  refine jw_aload_n (pc' := 9) rfl rfl ?_
  refine jw_iload_n (pc' := 10) rfl rfl ?_
  refine jw_iconst (pc' := 11) (x := (1 : Int32)) rfl rfl ?_
  refine jw_iadd (pc' := 12) rfl ?_
  refine jw_cI (st := [vI (v_4 <<< ((24 : Int32) &&& 31))]) (sa := [vR 41 r0, vI (x1 + (1 : Int32))]) okX8_b rfl rfl rfl rfl rfl rfl (jstp_virtual (sa := [vI (x1 + (1 : Int32))]) (st := [vI (v_4 <<< ((24 : Int32) &&& 31))]) (k := 0) rfl rfl sX8_b okX8_b g_1 (one41.k g_1) rfl rfl) w (fun v_7 h_5 _ _ w => ?_)
  refine jw_bipush (pc' := 17) (x := (16 : Int32)) rfl rfl ?_
  refine jw_ishl (pc' := 18) rfl ?_
  refine jw_ior (pc' := 19) rfl ?_
  refine jw_aload_n (pc' := 20) rfl rfl ?_
  refine jw_iload_n (pc' := 21) rfl rfl ?_
  refine jw_iconst (pc' := 22) (x := (2 : Int32)) rfl rfl ?_
  refine jw_iadd (pc' := 23) rfl ?_
  refine jw_cI (st := [vI ((v_4 <<< ((24 : Int32) &&& 31)) ||| (v_7 <<< ((16 : Int32) &&& 31)))]) (sa := [vR 41 r0, vI (x1 + (2 : Int32))]) okX8_b rfl rfl rfl rfl rfl rfl (jstp_virtual (sa := [vI (x1 + (2 : Int32))]) (st := [vI ((v_4 <<< ((24 : Int32) &&& 31)) ||| (v_7 <<< ((16 : Int32) &&& 31)))]) (k := 0) rfl rfl sX8_b okX8_b g_1 (one41.k g_1) rfl rfl) w (fun v_10 h_8 _ _ w => ?_)
  refine jw_bipush (pc' := 28) (x := (8 : Int32)) rfl rfl ?_
  refine jw_ishl (pc' := 29) rfl ?_
  refine jw_ior (pc' := 30) rfl ?_
  refine jw_aload_n (pc' := 31) rfl rfl ?_
  refine jw_iload_n (pc' := 32) rfl rfl ?_
  refine jw_iconst (pc' := 33) (x := (3 : Int32)) rfl rfl ?_
  refine jw_iadd (pc' := 34) rfl ?_
  refine jw_cI (st := [vI (((v_4 <<< ((24 : Int32) &&& 31)) ||| (v_7 <<< ((16 : Int32) &&& 31))) ||| (v_10 <<< ((8 : Int32) &&& 31)))]) (sa := [vR 41 r0, vI (x1 + (3 : Int32))]) okX8_b rfl rfl rfl rfl rfl rfl (jstp_virtual (sa := [vI (x1 + (3 : Int32))]) (st := [vI (((v_4 <<< ((24 : Int32) &&& 31)) ||| (v_7 <<< ((16 : Int32) &&& 31))) ||| (v_10 <<< ((8 : Int32) &&& 31)))]) (k := 0) rfl rfl sX8_b okX8_b g_1 (one41.k g_1) rfl rfl) w (fun v_13 h_11 _ _ w => ?_)
  refine jw_ior (pc' := 38) rfl ?_
  exact jw_ireturn rfl rfl (rfl) w
def T_X8_four (D : JD) (d : Nat) (Q : JO → JH → Prop) (r0 : Nat) (x1 : Int32) (h : JH) : Prop := W_X8_four_0 D d Q r0 x1 h
theorem t_X8_four {D : JD} {d : Nat} {Q : JO → JH → Prop} {r0 : Nat} {x1 : Int32} {h : JH} (w : T_X8_four D d Q r0 x1 h) : cX8_four D (d + 1) r0 x1 h Q := by
  unfold T_X8_four at w
  unfold cX8_four
  exact w_X8_four_0 w
def W_X8_b_0 (D : JD) (d : Nat) (Q : JO → JH → Prop) (r0 : Nat) (x1 : Int32) (h : JH) : Prop :=
  r0 ≠ 0 ∧ ((jfr h 224 r0) ≠ 0 ∧ jin x1 (jln h (jfr h 224 r0)) ∧ (Q (.inl (some (vI ((jai h (jfr h 224 r0) (ixn x1)) &&& (255 : Int32))))) h))
theorem w_X8_b_0 {D : JD} {d : Nat} {Q : JO → JH → Prop} {r0 : Nat} {x1 : Int32} {h : JH} (w : W_X8_b_0 D d Q r0 x1 h) : JW D (d + 1) mX8_b 0 [some (vR 41 r0), some (vI x1)] [] h Q := by
  unfold W_X8_b_0 at w
  refine jw_aload_n (pc' := 1) rfl rfl ?_
  obtain ⟨g_1, w⟩ := w
  refine jw_getR (pc' := 4) (F := 224) (t' := 179) rfl rfl rfl rfl rfl g_1 ?_
  refine jw_iload_n (pc' := 5) rfl rfl ?_
  obtain ⟨g_2, w⟩ := w
  obtain ⟨g_3, w⟩ := w
  refine jw_bald (pc' := 6) rfl rfl rfl rfl g_2 g_3.ix g_3.2 ?_
  refine jw_sipush (pc' := 9) (x := (255 : Int32)) rfl rfl ?_
  refine jw_iand (pc' := 10) rfl ?_
  exact jw_ireturn rfl rfl (rfl) w
def T_X8_b (D : JD) (d : Nat) (Q : JO → JH → Prop) (r0 : Nat) (x1 : Int32) (h : JH) : Prop := W_X8_b_0 D d Q r0 x1 h
theorem t_X8_b {D : JD} {d : Nat} {Q : JO → JH → Prop} {r0 : Nat} {x1 : Int32} {h : JH} (w : T_X8_b D d Q r0 x1 h) : cX8_b D (d + 1) r0 x1 h Q := by
  unfold T_X8_b at w
  unfold cX8_b
  exact w_X8_b_0 w
def W_X8_shut_0 (D : JD) (d : Nat) (Q : JO → JH → Prop) (r0 : Nat) (h : JH) : Prop :=
  r0 ≠ 0 ∧ ∀ h_2 : JH, h_2 = wfi h 228 r0 (5 : Int32) → (∀ h_4 : JH, h_4 = wfi h_2 225 r0 (0 : Int32) → (∀ h_6 : JH, h_6 = wfi h_4 232 r0 (0 : Int32) → (∀ h_8 : JH, h_8 = wfi h_6 234 r0 (0 : Int32) → (∀ h_10 : JH, h_10 = wfi h_8 229 r0 (0 : Int32) → ((jfr h_10 178 r0) ≠ 0 ∧ (cX10_take D d (jfr h_10 178 r0) (jfr h_10 179 r0) h_10 (pV D h_10 (fun h_13 => Q (.inl none) h_13) (jth Q))))))))
theorem w_X8_shut_0 {D : JD} {d : Nat} {Q : JO → JH → Prop} {r0 : Nat} {h : JH} (w : W_X8_shut_0 D d Q r0 h) : JW D (d + 1) mX8_shut 0 [some (vR 41 r0)] [] h Q := by
  unfold W_X8_shut_0 at w
  refine jw_aload_n (pc' := 1) rfl rfl ?_
  refine jw_iconst (pc' := 2) (x := (5 : Int32)) rfl rfl ?_
  obtain ⟨g_1, w⟩ := w
  refine jw_putI' (pc' := 5) (F := 228) rfl rfl rfl (Or.inr rfl) (Or.inl rfl) rfl (rfl) (rfl) rfl g_1 (fun h_2 e_3 => ?_)
  replace w := w h_2 e_3
  refine jw_aload_n (pc' := 6) rfl rfl ?_
  refine jw_iconst (pc' := 7) (x := (0 : Int32)) rfl rfl ?_
  refine jw_putI' (pc' := 10) (F := 225) rfl rfl rfl (Or.inr rfl) (Or.inl rfl) rfl (rfl) (rfl) rfl g_1 (fun h_4 e_5 => ?_)
  replace w := w h_4 e_5
  refine jw_aload_n (pc' := 11) rfl rfl ?_
  refine jw_iconst (pc' := 12) (x := (0 : Int32)) rfl rfl ?_
  refine jw_putI' (pc' := 15) (F := 232) rfl rfl rfl (Or.inr rfl) (Or.inl rfl) rfl (rfl) (rfl) rfl g_1 (fun h_6 e_7 => ?_)
  replace w := w h_6 e_7
  refine jw_aload_n (pc' := 16) rfl rfl ?_
  refine jw_iconst (pc' := 17) (x := (0 : Int32)) rfl rfl ?_
  refine jw_putI' (pc' := 20) (F := 234) rfl rfl rfl (Or.inr rfl) (Or.inl rfl) rfl (rfl) (rfl) rfl g_1 (fun h_8 e_9 => ?_)
  replace w := w h_8 e_9
  refine jw_aload_n (pc' := 21) rfl rfl ?_
  refine jw_iconst (pc' := 22) (x := (0 : Int32)) rfl rfl ?_
  refine jw_putI' (pc' := 25) (F := 229) rfl rfl rfl (Or.inr rfl) (Or.inl rfl) rfl (rfl) (rfl) rfl g_1 (fun h_10 e_11 => ?_)
  replace w := w h_10 e_11
  refine jw_aload_n (pc' := 26) rfl rfl ?_
  refine jw_getR (pc' := 29) (F := 178) (t' := 116) rfl rfl rfl rfl rfl g_1 ?_
  refine jw_aload_n (pc' := 30) rfl rfl ?_
  refine jw_getR (pc' := 33) (F := 179) (t' := 117) rfl rfl rfl rfl rfl g_1 ?_
  obtain ⟨g_12, w⟩ := w
  refine jw_cV (st := []) (sa := [vR 116 (jfr h_10 178 r0), vR 117 (jfr h_10 179 r0)]) okX10_take rfl rfl rfl rfl rfl rfl (jstp_virtual (sa := [vR 117 (jfr h_10 179 r0)]) (st := []) (k := 0) rfl rfl sX10_take okX10_take g_12 (one116.k g_12) rfl rfl) w (fun h_13 _ _ w => ?_)
  exact jw_return rfl rfl w
def T_X8_shut (D : JD) (d : Nat) (Q : JO → JH → Prop) (r0 : Nat) (h : JH) : Prop := W_X8_shut_0 D d Q r0 h
theorem t_X8_shut {D : JD} {d : Nat} {Q : JO → JH → Prop} {r0 : Nat} {h : JH} (w : T_X8_shut D d Q r0 h) : cX8_shut D (d + 1) r0 h Q := by
  unfold T_X8_shut at w
  unfold cX8_shut
  exact w_X8_shut_0 w
def W_X8_hello_157 (D : JD) (d : Nat) (Q : JO → JH → Prop) (r0 : Nat) (q0 : Nat) (s1 : Int32) (h : JH) : Prop :=
  q0 ≠ 0 ∧ (cX8_must D d q0 s1 (jcs D 227) h (pV D h (fun h_2 => r0 ≠ 0 ∧ (cX8_begin D d r0 (82 : Int32) h_2 (pV D h_2 (fun h_6 => cX8_say4 D d r0 (3 : Int32) h_6 (pV D h_6 (fun h_9 => cX8_close D d r0 h_9 (pV D h_9 (fun h_12 => ∀ h_15 : JH, h_15 = wfi h_12 228 r0 (1 : Int32) → (Q (.inl none) h_15)) (jth Q))) (jth Q))) (jth Q)))) (jth Q)))
theorem w_X8_hello_157 {D : JD} {d : Nat} {Q : JO → JH → Prop} {r0 : Nat} {q0 : Nat} {s1 : Int32} {h : JH} (w : W_X8_hello_157 D d Q r0 q0 s1 h) : JW D (d + 1) mX8_hello 157 [some (vR 41 r0), none, none, none, none] [vI s1, vR 41 q0] h Q := by
  unfold W_X8_hello_157 at w
  refine jw_ldcwS (pc' := 160) rfl rfl rfl rfl ?_
  obtain ⟨g_1, w⟩ := w
  refine jw_cV (st := []) (sa := [vR 41 q0, vI s1, vR 51 (jcs D 227)]) okX8_must rfl rfl rfl rfl rfl rfl (jstp_virtual (sa := [vI s1, vR 51 (jcs D 227)]) (st := []) (k := 0) rfl rfl sX8_must okX8_must g_1 (one41.k g_1) rfl rfl) w (fun h_2 _ _ w => ?_)
  refine jw_aload_n (pc' := 164) rfl rfl ?_
  refine jw_bipush (pc' := 166) (x := (82 : Int32)) rfl rfl ?_
  obtain ⟨g_5, w⟩ := w
  refine jw_cV (st := []) (sa := [vR 41 r0, vI (82 : Int32)]) okX8_begin rfl rfl rfl rfl rfl rfl (jstp_virtual (sa := [vI (82 : Int32)]) (st := []) (k := 0) rfl rfl sX8_begin okX8_begin g_5 (one41.k g_5) rfl rfl) w (fun h_6 _ _ w => ?_)
  refine jw_aload_n (pc' := 170) rfl rfl ?_
  refine jw_iconst (pc' := 171) (x := (3 : Int32)) rfl rfl ?_
  refine jw_cV (st := []) (sa := [vR 41 r0, vI (3 : Int32)]) okX8_say4 rfl rfl rfl rfl rfl rfl (jstp_virtual (sa := [vI (3 : Int32)]) (st := []) (k := 0) rfl rfl sX8_say4 okX8_say4 g_5 (one41.k g_5) rfl rfl) w (fun h_9 _ _ w => ?_)
  refine jw_aload_n (pc' := 175) rfl rfl ?_
  refine jw_cV (st := []) (sa := [vR 41 r0]) okX8_close rfl rfl rfl rfl rfl rfl (jstp_virtual (sa := []) (st := []) (k := 0) rfl rfl sX8_close okX8_close g_5 (one41.k g_5) rfl rfl) w (fun h_12 _ _ w => ?_)
  refine jw_aload_n (pc' := 179) rfl rfl ?_
  refine jw_iconst (pc' := 180) (x := (1 : Int32)) rfl rfl ?_
  refine jw_putI' (pc' := 183) (F := 228) rfl rfl rfl (Or.inr rfl) (Or.inl rfl) rfl (rfl) (rfl) rfl g_5 (fun h_15 e_16 => ?_)
  replace w := w h_15 e_16
  exact jw_return rfl rfl w
def W_X8_hello_156 (D : JD) (d : Nat) (Q : JO → JH → Prop) (r0 : Nat) (q0 : Nat) (h : JH) : Prop :=
  W_X8_hello_157 D d Q r0 q0 (0 : Int32) h
theorem w_X8_hello_156 {D : JD} {d : Nat} {Q : JO → JH → Prop} {r0 : Nat} {q0 : Nat} {h : JH} (w : W_X8_hello_156 D d Q r0 q0 h) : JW D (d + 1) mX8_hello 156 [some (vR 41 r0), none, none, none, none] [vR 41 q0] h Q := by
  unfold W_X8_hello_156 at w
  refine jw_iconst (pc' := 157) (x := (0 : Int32)) rfl rfl ?_
  exact w_X8_hello_157 w
def W_X8_hello_118 (D : JD) (d : Nat) (Q : JO → JH → Prop) (r0 : Nat) (q0 : Nat) (s1 : Int32) (h : JH) : Prop :=
  q0 ≠ 0 ∧ (cX8_whole D d q0 s1 h (pV D h (fun h_2 => r0 ≠ 0 ∧ (((jfr h_2 230 r0) = 0 → W_X8_hello_156 D d Q r0 r0 h_2) ∧ ((jfr h_2 230 r0) ≠ 0 → cJ5_length D d (jfr h_2 230 r0) h_2 (pI D h_2 (fun v_9 h_7 => (v_9 < (1 : Int32) → W_X8_hello_156 D d Q r0 r0 h_7) ∧ (¬ v_9 < (1 : Int32) → (jfr h_7 230 r0) ≠ 0 ∧ (cJ5_length D d (jfr h_7 230 r0) h_7 (pI D h_7 (fun v_14 h_12 => ((20 : Int32) < v_14 → W_X8_hello_156 D d Q r0 r0 h_12) ∧ (¬ (20 : Int32) < v_14 → W_X8_hello_157 D d Q r0 r0 (1 : Int32) h_12)) (jth Q))))) (jth Q))))) (jth Q)))
theorem w_X8_hello_118 {D : JD} {d : Nat} {Q : JO → JH → Prop} {r0 : Nat} {q0 : Nat} {s1 : Int32} {h : JH} (w : W_X8_hello_118 D d Q r0 q0 s1 h) : JW D (d + 1) mX8_hello 118 [some (vR 41 r0), none, none, none, none] [vI s1, vR 41 q0] h Q := by
  unfold W_X8_hello_118 at w
  obtain ⟨g_1, w⟩ := w
  refine jw_cV (st := []) (sa := [vR 41 q0, vI s1]) okX8_whole rfl rfl rfl rfl rfl rfl (jstp_virtual (sa := [vI s1]) (st := []) (k := 0) rfl rfl sX8_whole okX8_whole g_1 (one41.k g_1) rfl rfl) w (fun h_2 _ _ w => ?_)
  refine jw_aload_n (pc' := 122) rfl rfl ?_
  refine jw_aload_n (pc' := 123) rfl rfl ?_
  obtain ⟨g_5, w⟩ := w
  refine jw_getR (pc' := 126) (F := 230) (t' := 64) rfl rfl rfl rfl rfl g_5 ?_
  refine jw_ifnull (tgt := 156) (pc' := 129) rfl rfl (fun c_6 => ?_) (fun c_6 => ?_)
  · replace w := w.1 c_6
    exact w_X8_hello_156 w
  · replace w := w.2 c_6
    refine jw_aload_n (pc' := 130) rfl rfl ?_
    refine jw_getR (pc' := 133) (F := 230) (t' := 64) rfl rfl rfl rfl rfl g_5 ?_
    refine jw_cI (st := [vR 41 r0]) (sa := [vR 64 (jfr h_2 230 r0)]) okJ5_length rfl rfl rfl rfl rfl rfl (jstp_virtual (sa := []) (st := [vR 41 r0]) (k := 0) rfl rfl sJ5_length okJ5_length c_6 (one64.k c_6) rfl rfl) w (fun v_9 h_7 _ _ w => ?_)
    refine jw_iconst (pc' := 137) (x := (1 : Int32)) rfl rfl ?_
    refine jw_icmp_lt (tgt := 156) (pc' := 140) rfl rfl (fun c_10 => ?_) (fun c_10 => ?_)
    · replace w := w.1 c_10
      exact w_X8_hello_156 w
    · replace w := w.2 c_10
      refine jw_aload_n (pc' := 141) rfl rfl ?_
      refine jw_getR (pc' := 144) (F := 230) (t' := 64) rfl rfl rfl rfl rfl g_5 ?_
      obtain ⟨g_11, w⟩ := w
      refine jw_cI (st := [vR 41 r0]) (sa := [vR 64 (jfr h_7 230 r0)]) okJ5_length rfl rfl rfl rfl rfl rfl (jstp_virtual (sa := []) (st := [vR 41 r0]) (k := 0) rfl rfl sJ5_length okJ5_length g_11 (one64.k g_11) rfl rfl) w (fun v_14 h_12 _ _ w => ?_)
      refine jw_bipush (pc' := 149) (x := (20 : Int32)) rfl rfl ?_
      refine jw_icmp_gt (tgt := 156) (pc' := 152) rfl rfl (fun c_15 => ?_) (fun c_15 => ?_)
      · replace w := w.1 c_15
        exact w_X8_hello_156 w
      · replace w := w.2 c_15
        refine jw_iconst (pc' := 153) (x := (1 : Int32)) rfl rfl ?_
        refine jw_goto (pc' := 157) rfl rfl ?_
        exact w_X8_hello_157 w
def W_X8_hello_99 (D : JD) (d : Nat) (Q : JO → JH → Prop) (r0 : Nat) (h : JH) : Prop :=
  r0 ≠ 0 ∧ ((¬ (jfi h 238 r0) = ((jfi h 239 r0) - (1 : Int32)) → W_X8_hello_118 D d Q r0 r0 (0 : Int32) h) ∧ ((jfi h 238 r0) = ((jfi h 239 r0) - (1 : Int32)) → W_X8_hello_118 D d Q r0 r0 (1 : Int32) h))
theorem w_X8_hello_99 {D : JD} {d : Nat} {Q : JO → JH → Prop} {r0 : Nat} {h : JH} (w : W_X8_hello_99 D d Q r0 h) : JW D (d + 1) mX8_hello 99 [some (vR 41 r0), none, none, none, none] [] h Q := by
  unfold W_X8_hello_99 at w
  refine jw_aload_n (pc' := 100) rfl rfl ?_
  refine jw_aload_n (pc' := 101) rfl rfl ?_
  obtain ⟨g_1, w⟩ := w
  refine jw_getI (pc' := 104) (F := 238) rfl rfl rfl rfl g_1 ?_
  refine jw_aload_n (pc' := 105) rfl rfl ?_
  refine jw_getI (pc' := 108) (F := 239) rfl rfl rfl rfl g_1 ?_
  refine jw_iconst (pc' := 109) (x := (1 : Int32)) rfl rfl ?_
  refine jw_isub (pc' := 110) rfl ?_
  refine jw_icmp_ne (tgt := 117) (pc' := 113) rfl rfl (fun c_2 => ?_) (fun c_2 => ?_)
  · replace w := w.1 c_2
    refine jw_iconst (pc' := 118) (x := (0 : Int32)) rfl rfl ?_
    exact w_X8_hello_118 w
  · replace w := w.2 c_2
    refine jw_iconst (pc' := 114) (x := (1 : Int32)) rfl rfl ?_
    refine jw_goto (pc' := 118) rfl rfl ?_
    exact w_X8_hello_118 w
def W_X8_hello_96 (D : JD) (d : Nat) (Q : JO → JH → Prop) (K46 : Nat → JH → Prop) (r0 : Nat) (h : JH) : Prop :=
  K46 r0 h
theorem w_X8_hello_96 {D : JD} {d : Nat} {Q : JO → JH → Prop} {K46 : Nat → JH → Prop} {r0 : Nat} {h : JH} (hK46 : ∀ (r0 : Nat) (h : JH), K46 r0 h → JW D (d + 1) mX8_hello 46 [some (vR 41 r0), none, none, none, none] [] h Q) (w : W_X8_hello_96 D d Q K46 r0 h) : JW D (d + 1) mX8_hello 96 [some (vR 41 r0), none, none, none, none] [] h Q := by
  unfold W_X8_hello_96 at w
  refine jw_goto (pc' := 46) rfl rfl ?_
  exact hK46 _ _ w
def W_X8_hello_46 (D : JD) (d : Nat) (Q : JO → JH → Prop) (K46 : Nat → JH → Prop) (r0 : Nat) (h : JH) : Prop :=
  r0 ≠ 0 ∧ (((jfi h 239 r0) ≤ (jfi h 238 r0) → W_X8_hello_99 D d Q r0 h) ∧ (¬ (jfi h 239 r0) ≤ (jfi h 238 r0) → (jfr h 224 r0) ≠ 0 ∧ jin (jfi h 238 r0) (jln h (jfr h 224 r0)) ∧ (((jai h (jfr h 224 r0) (ixn (jfi h 238 r0))) = 0 → W_X8_hello_99 D d Q r0 h) ∧ (¬ (jai h (jfr h 224 r0) (ixn (jfi h 238 r0))) = 0 → cX8_stringOf D d r0 h (pR D h 64 (fun v_8 h_6 => cX8_stringOf D d r0 h_6 (pR D h_6 64 (fun v_11 h_9 => v_8 ≠ 0 ∧ (cJ5_equals D d v_8 (jcs D 225) h_9 (pI D h_9 (fun v_15 h_13 => (v_15 = 0 → W_X8_hello_96 D d Q K46 r0 h_13) ∧ (¬ v_15 = 0 → ∀ h_17 : JH, h_17 = wfr h_13 230 r0 v_11 → (W_X8_hello_96 D d Q K46 r0 h_17))) (jth Q)))) (jth Q))) (jth Q))))))
theorem w_X8_hello_46 {D : JD} {d : Nat} {Q : JO → JH → Prop} {K46 : Nat → JH → Prop} {r0 : Nat} {h : JH} (hK46 : ∀ (r0 : Nat) (h : JH), K46 r0 h → JW D (d + 1) mX8_hello 46 [some (vR 41 r0), none, none, none, none] [] h Q) (w : W_X8_hello_46 D d Q K46 r0 h) : JW D (d + 1) mX8_hello 46 [some (vR 41 r0), none, none, none, none] [] h Q := by
  unfold W_X8_hello_46 at w
  refine jw_aload_n (pc' := 47) rfl rfl ?_
  obtain ⟨g_1, w⟩ := w
  refine jw_getI (pc' := 50) (F := 238) rfl rfl rfl rfl g_1 ?_
  refine jw_aload_n (pc' := 51) rfl rfl ?_
  refine jw_getI (pc' := 54) (F := 239) rfl rfl rfl rfl g_1 ?_
  refine jw_icmp_ge (tgt := 99) (pc' := 57) rfl rfl (fun c_2 => ?_) (fun c_2 => ?_)
  · replace w := w.1 c_2
    exact w_X8_hello_99 w
  · replace w := w.2 c_2
    refine jw_aload_n (pc' := 58) rfl rfl ?_
    refine jw_getR (pc' := 61) (F := 224) (t' := 179) rfl rfl rfl rfl rfl g_1 ?_
    refine jw_aload_n (pc' := 62) rfl rfl ?_
    refine jw_getI (pc' := 65) (F := 238) rfl rfl rfl rfl g_1 ?_
    obtain ⟨g_3, w⟩ := w
    obtain ⟨g_4, w⟩ := w
    refine jw_bald (pc' := 66) rfl rfl rfl rfl g_3 g_4.ix g_4.2 ?_
    refine jw_if_eq (tgt := 99) (pc' := 69) rfl rfl (fun c_5 => ?_) (fun c_5 => ?_)
    · replace w := w.1 c_5
      exact w_X8_hello_99 w
    · replace w := w.2 c_5
      refine jw_aload_n (pc' := 70) rfl rfl ?_
      refine jw_cR (st := []) (sa := [vR 41 r0]) okX8_stringOf rfl rfl rfl rfl rfl rfl (jstp_virtual (sa := []) (st := []) (k := 0) rfl rfl sX8_stringOf okX8_stringOf g_1 (one41.k g_1) rfl rfl) w (fun v_8 h_6 _ _ _ w => ?_)
      refine jw_astore_n (pc' := 74) (ls' := [some (vR 41 r0), none, none, some (vR 64 v_8), none]) rfl (by decide) rfl ?_
      refine jw_aload_n (pc' := 75) rfl rfl ?_
      refine jw_cR (st := []) (sa := [vR 41 r0]) okX8_stringOf rfl rfl rfl rfl rfl rfl (jstp_virtual (sa := []) (st := []) (k := 0) rfl rfl sX8_stringOf okX8_stringOf g_1 (one41.k g_1) rfl rfl) w (fun v_11 h_9 _ _ _ w => ?_)
      refine jw_astore (pc' := 80) (ls' := [some (vR 41 r0), none, none, some (vR 64 v_8), some (vR 64 v_11)]) rfl (by decide) rfl ?_
      refine jw_aload_n (pc' := 81) rfl rfl ?_
      refine jw_ldcwS (pc' := 84) rfl rfl rfl rfl ?_
      obtain ⟨g_12, w⟩ := w
      refine jw_cI (st := []) (sa := [vR 64 v_8, vR 51 (jcs D 225)]) okJ5_equals rfl rfl rfl rfl rfl rfl (jstp_virtual (sa := [vR 51 (jcs D 225)]) (st := []) (k := 0) rfl rfl sJ5_equals okJ5_equals g_12 (one64.k g_12) rfl rfl) w (fun v_15 h_13 _ _ w => ?_)
      refine jw_if_eq (tgt := 96) (pc' := 90) rfl rfl (fun c_16 => ?_) (fun c_16 => ?_)
      · replace w := w.1 c_16
        refine jw_gen (ls' := [some (vR 41 r0), none, none, none, none]) (st' := []) (And.intro (Or.inl rfl) (trivial)) (trivial) ?_
        exact w_X8_hello_96 hK46 w
      · replace w := w.2 c_16
        refine jw_aload_n (pc' := 91) rfl rfl ?_
        refine jw_aload (pc' := 93) rfl rfl ?_
        refine jw_putR' (pc' := 96) (F := 230) rfl rfl rfl (Or.inr rfl) (Or.inl rfl) rfl rfl rfl g_1 (fun h_17 e_18 => ?_)
        replace w := w h_17 e_18
        refine jw_gen (ls' := [some (vR 41 r0), none, none, none, none]) (st' := []) (And.intro (Or.inl rfl) (trivial)) (trivial) ?_
        exact w_X8_hello_96 hK46 w
def L_X8_hello_46 (D : JD) (d : Nat) (Q : JO → JH → Prop) : Nat → Nat → JH → Prop
  | 0 => fun _ _ => False
  | n + 1 => fun r0 h => W_X8_hello_46 D d Q (L_X8_hello_46 D d Q n) r0 h
theorem l_X8_hello_46 {D : JD} {d : Nat} {Q : JO → JH → Prop} : ∀ (n : Nat) (r0 : Nat) (h : JH), L_X8_hello_46 D d Q n r0 h → JW D (d + 1) mX8_hello 46 [some (vR 41 r0), none, none, none, none] [] h Q := by
  intro n
  induction n with
  | zero => intro _ _ w; exact w.elim
  | succ n ih => intro _ h w; exact w_X8_hello_46 ih w
def W_X8_hello_38 (D : JD) (d : Nat) (Q : JO → JH → Prop) (r0 : Nat) (q0 : Nat) (s1 : Int32) (h : JH) : Prop :=
  q0 ≠ 0 ∧ (cX8_whole D d q0 s1 h (pV D h (fun h_2 => r0 ≠ 0 ∧ ∀ h_6 : JH, h_6 = wfr h_2 230 r0 0 → (∃ n, L_X8_hello_46 D d Q n r0 h_6)) (jth Q)))
theorem w_X8_hello_38 {D : JD} {d : Nat} {Q : JO → JH → Prop} {r0 : Nat} {q0 : Nat} {s1 : Int32} {h : JH} (w : W_X8_hello_38 D d Q r0 q0 s1 h) : JW D (d + 1) mX8_hello 38 [some (vR 41 r0), none, none, none, none] [vI s1, vR 41 q0] h Q := by
  unfold W_X8_hello_38 at w
  obtain ⟨g_1, w⟩ := w
  refine jw_cV (st := []) (sa := [vR 41 q0, vI s1]) okX8_whole rfl rfl rfl rfl rfl rfl (jstp_virtual (sa := [vI s1]) (st := []) (k := 0) rfl rfl sX8_whole okX8_whole g_1 (one41.k g_1) rfl rfl) w (fun h_2 _ _ w => ?_)
  refine jw_aload_n (pc' := 42) rfl rfl ?_
  refine jw_null (pc' := 43) (t := 64) rfl ?_
  obtain ⟨g_5, w⟩ := w
  refine jw_putR' (pc' := 46) (F := 230) rfl rfl rfl (Or.inr rfl) (Or.inl rfl) rfl rfl rfl g_5 (fun h_6 e_7 => ?_)
  replace w := w h_6 e_7
  obtain ⟨n, w⟩ := w
  exact l_X8_hello_46 n _ _ w
def W_X8_hello_25 (D : JD) (d : Nat) (Q : JO → JH → Prop) (r0 : Nat) (x2 : Int32) (h : JH) : Prop :=
  (¬ x2 = (196608 : Int32) → W_X8_hello_38 D d Q r0 r0 (0 : Int32) h) ∧ (x2 = (196608 : Int32) → W_X8_hello_38 D d Q r0 r0 (1 : Int32) h)
theorem w_X8_hello_25 {D : JD} {d : Nat} {Q : JO → JH → Prop} {r0 : Nat} {x2 : Int32} {h : JH} (w : W_X8_hello_25 D d Q r0 x2 h) : JW D (d + 1) mX8_hello 25 [some (vR 41 r0), none, some (vI x2), none, none] [] h Q := by
  unfold W_X8_hello_25 at w
  refine jw_aload_n (pc' := 26) rfl rfl ?_
  refine jw_iload_n (pc' := 27) rfl rfl ?_
  refine jw_ldcwI (pc' := 30) (v := (196608 : Int32)) rfl rfl (by decide +kernel) ?_
  refine jw_icmp_ne (tgt := 37) (pc' := 33) rfl rfl (fun c_1 => ?_) (fun c_1 => ?_)
  · replace w := w.1 c_1
    refine jw_iconst (pc' := 38) (x := (0 : Int32)) rfl rfl ?_
    refine jw_gen (ls' := [some (vR 41 r0), none, none, none, none]) (st' := [vI (0 : Int32), vR 41 r0]) (And.intro (Or.inl rfl) (trivial)) (And.intro (Or.inl rfl) (And.intro (Or.inl rfl) (trivial))) ?_
    exact w_X8_hello_38 w
  · replace w := w.2 c_1
    refine jw_iconst (pc' := 34) (x := (1 : Int32)) rfl rfl ?_
    refine jw_goto (pc' := 38) rfl rfl ?_
    refine jw_gen (ls' := [some (vR 41 r0), none, none, none, none]) (st' := [vI (1 : Int32), vR 41 r0]) (And.intro (Or.inl rfl) (trivial)) (And.intro (Or.inl rfl) (And.intro (Or.inl rfl) (trivial))) ?_
    exact w_X8_hello_38 w
def W_X8_hello_0 (D : JD) (d : Nat) (Q : JO → JH → Prop) (r0 : Nat) (x1 : Int32) (h : JH) : Prop :=
  r0 ≠ 0 ∧ (cX8_read4 D d r0 h (pI D h (fun v_4 h_2 => (¬ v_4 = (80877103 : Int32) → W_X8_hello_25 D d Q r0 v_4 h_2) ∧ (v_4 = (80877103 : Int32) → (¬ x1 = (8 : Int32) → W_X8_hello_25 D d Q r0 v_4 h_2) ∧ (x1 = (8 : Int32) → cX8_say D d r0 (78 : Int32) h_2 (pV D h_2 (fun h_7 => Q (.inl none) h_7) (jth Q))))) (jth Q)))
theorem w_X8_hello_0 {D : JD} {d : Nat} {Q : JO → JH → Prop} {r0 : Nat} {x1 : Int32} {h : JH} (w : W_X8_hello_0 D d Q r0 x1 h) : JW D (d + 1) mX8_hello 0 [some (vR 41 r0), some (vI x1), none, none, none] [] h Q := by
  unfold W_X8_hello_0 at w
  refine jw_aload_n (pc' := 1) rfl rfl ?_
  obtain ⟨g_1, w⟩ := w
  refine jw_cI (st := []) (sa := [vR 41 r0]) okX8_read4 rfl rfl rfl rfl rfl rfl (jstp_virtual (sa := []) (st := []) (k := 0) rfl rfl sX8_read4 okX8_read4 g_1 (one41.k g_1) rfl rfl) w (fun v_4 h_2 _ _ w => ?_)
  refine jw_istore_n (pc' := 5) (ls' := [some (vR 41 r0), some (vI x1), some (vI v_4), none, none]) rfl (by decide) rfl ?_
  refine jw_iload_n (pc' := 6) rfl rfl ?_
  refine jw_ldcwI (pc' := 9) (v := (80877103 : Int32)) rfl rfl (by decide +kernel) ?_
  refine jw_icmp_ne (tgt := 25) (pc' := 12) rfl rfl (fun c_5 => ?_) (fun c_5 => ?_)
  · replace w := w.1 c_5
    refine jw_gen (ls' := [some (vR 41 r0), none, some (vI v_4), none, none]) (st' := []) (And.intro (Or.inl rfl) (And.intro (Or.inl rfl) (trivial))) (trivial) ?_
    exact w_X8_hello_25 w
  · replace w := w.2 c_5
    refine jw_iload_n (pc' := 13) rfl rfl ?_
    refine jw_bipush (pc' := 15) (x := (8 : Int32)) rfl rfl ?_
    refine jw_icmp_ne (tgt := 25) (pc' := 18) rfl rfl (fun c_6 => ?_) (fun c_6 => ?_)
    · replace w := w.1 c_6
      refine jw_gen (ls' := [some (vR 41 r0), none, some (vI v_4), none, none]) (st' := []) (And.intro (Or.inl rfl) (And.intro (Or.inl rfl) (trivial))) (trivial) ?_
      exact w_X8_hello_25 w
    · replace w := w.2 c_6
      refine jw_aload_n (pc' := 19) rfl rfl ?_
      refine jw_bipush (pc' := 21) (x := (78 : Int32)) rfl rfl ?_
      refine jw_cV (st := []) (sa := [vR 41 r0, vI (78 : Int32)]) okX8_say rfl rfl rfl rfl rfl rfl (jstp_virtual (sa := [vI (78 : Int32)]) (st := []) (k := 0) rfl rfl sX8_say okX8_say g_1 (one41.k g_1) rfl rfl) w (fun h_7 _ _ w => ?_)
      exact jw_return rfl rfl w
def T_X8_hello (D : JD) (d : Nat) (Q : JO → JH → Prop) (r0 : Nat) (x1 : Int32) (h : JH) : Prop := W_X8_hello_0 D d Q r0 x1 h
theorem t_X8_hello {D : JD} {d : Nat} {Q : JO → JH → Prop} {r0 : Nat} {x1 : Int32} {h : JH} (w : T_X8_hello D d Q r0 x1 h) : cX8_hello D (d + 1) r0 x1 h Q := by
  unfold T_X8_hello at w
  unfold cX8_hello
  exact w_X8_hello_0 w
def W_X8_read4_19 (D : JD) (d : Nat) (Q : JO → JH → Prop) (r0 : Nat) (q0 : Nat) (s1 : Int32) (h : JH) : Prop :=
  q0 ≠ 0 ∧ (cX8_whole D d q0 s1 h (pV D h (fun h_2 => r0 ≠ 0 ∧ (∀ h_6 : JH, h_6 = wfi h_2 238 r0 ((jfi h_2 238 r0) + (4 : Int32)) → (cX8_four D d r0 ((jfi h_6 238 r0) - (4 : Int32)) h_6 (pI D h_6 (fun v_10 h_8 => Q (.inl (some (vI v_10))) h_8) (jth Q))))) (jth Q)))
theorem w_X8_read4_19 {D : JD} {d : Nat} {Q : JO → JH → Prop} {r0 : Nat} {q0 : Nat} {s1 : Int32} {h : JH} (w : W_X8_read4_19 D d Q r0 q0 s1 h) : JW D (d + 1) mX8_read4 19 [some (vR 41 r0)] [vI s1, vR 41 q0] h Q := by
  unfold W_X8_read4_19 at w
  obtain ⟨g_1, w⟩ := w
  refine jw_cV (st := []) (sa := [vR 41 q0, vI s1]) okX8_whole rfl rfl rfl rfl rfl rfl (jstp_virtual (sa := [vI s1]) (st := []) (k := 0) rfl rfl sX8_whole okX8_whole g_1 (one41.k g_1) rfl rfl) w (fun h_2 _ _ w => ?_)
  refine jw_aload_n (pc' := 23) rfl rfl ?_
  refine jw_dup (pc' := 24) rfl rfl ?_
  obtain ⟨g_5, w⟩ := w
  refine jw_getI (pc' := 27) (F := 238) rfl rfl rfl rfl g_5 ?_
  refine jw_iconst (pc' := 28) (x := (4 : Int32)) rfl rfl ?_
  refine jw_iadd (pc' := 29) rfl ?_
  refine jw_putI' (pc' := 32) (F := 238) rfl rfl rfl (Or.inr rfl) (Or.inl rfl) rfl (rfl) (rfl) rfl g_5 (fun h_6 e_7 => ?_)
  replace w := w h_6 e_7
  refine jw_aload_n (pc' := 33) rfl rfl ?_
  refine jw_aload_n (pc' := 34) rfl rfl ?_
  refine jw_getI (pc' := 37) (F := 238) rfl rfl rfl rfl g_5 ?_
  refine jw_iconst (pc' := 38) (x := (4 : Int32)) rfl rfl ?_
  refine jw_isub (pc' := 39) rfl ?_
  refine jw_cI (st := []) (sa := [vR 41 r0, vI ((jfi h_6 238 r0) - (4 : Int32))]) okX8_four rfl rfl rfl rfl rfl rfl (jstp_virtual (sa := [vI ((jfi h_6 238 r0) - (4 : Int32))]) (st := []) (k := 0) rfl rfl sX8_four okX8_four g_5 (one41.k g_5) rfl rfl) w (fun v_10 h_8 _ _ w => ?_)
  exact jw_ireturn rfl rfl (rfl) w
def W_X8_read4_0 (D : JD) (d : Nat) (Q : JO → JH → Prop) (r0 : Nat) (h : JH) : Prop :=
  r0 ≠ 0 ∧ (((jfi h 239 r0) < ((jfi h 238 r0) + (4 : Int32)) → W_X8_read4_19 D d Q r0 r0 (0 : Int32) h) ∧ (¬ (jfi h 239 r0) < ((jfi h 238 r0) + (4 : Int32)) → W_X8_read4_19 D d Q r0 r0 (1 : Int32) h))
theorem w_X8_read4_0 {D : JD} {d : Nat} {Q : JO → JH → Prop} {r0 : Nat} {h : JH} (w : W_X8_read4_0 D d Q r0 h) : JW D (d + 1) mX8_read4 0 [some (vR 41 r0)] [] h Q := by
  unfold W_X8_read4_0 at w
  refine jw_aload_n (pc' := 1) rfl rfl ?_
  refine jw_aload_n (pc' := 2) rfl rfl ?_
  obtain ⟨g_1, w⟩ := w
  refine jw_getI (pc' := 5) (F := 238) rfl rfl rfl rfl g_1 ?_
  refine jw_iconst (pc' := 6) (x := (4 : Int32)) rfl rfl ?_
  refine jw_iadd (pc' := 7) rfl ?_
  refine jw_aload_n (pc' := 8) rfl rfl ?_
  refine jw_getI (pc' := 11) (F := 239) rfl rfl rfl rfl g_1 ?_
  refine jw_icmp_gt (tgt := 18) (pc' := 14) rfl rfl (fun c_2 => ?_) (fun c_2 => ?_)
  · replace w := w.1 c_2
    refine jw_iconst (pc' := 19) (x := (0 : Int32)) rfl rfl ?_
    exact w_X8_read4_19 w
  · replace w := w.2 c_2
    refine jw_iconst (pc' := 15) (x := (1 : Int32)) rfl rfl ?_
    refine jw_goto (pc' := 19) rfl rfl ?_
    exact w_X8_read4_19 w
def T_X8_read4 (D : JD) (d : Nat) (Q : JO → JH → Prop) (r0 : Nat) (h : JH) : Prop := W_X8_read4_0 D d Q r0 h
theorem t_X8_read4 {D : JD} {d : Nat} {Q : JO → JH → Prop} {r0 : Nat} {h : JH} (w : T_X8_read4 D d Q r0 h) : cX8_read4 D (d + 1) r0 h Q := by
  unfold T_X8_read4 at w
  unfold cX8_read4
  exact w_X8_read4_0 w
def W_X8_whole_0 (D : JD) (d : Nat) (Q : JO → JH → Prop) (r0 : Nat) (x1 : Int32) (h : JH) : Prop :=
  r0 ≠ 0 ∧ (cX8_must D d r0 x1 (jcs D 226) h (pV D h (fun h_2 => Q (.inl none) h_2) (jth Q)))
theorem w_X8_whole_0 {D : JD} {d : Nat} {Q : JO → JH → Prop} {r0 : Nat} {x1 : Int32} {h : JH} (w : W_X8_whole_0 D d Q r0 x1 h) : JW D (d + 1) mX8_whole 0 [some (vR 41 r0), some (vI x1)] [] h Q := by
  unfold W_X8_whole_0 at w
  refine jw_aload_n (pc' := 1) rfl rfl ?_
  refine jw_iload_n (pc' := 2) rfl rfl ?_
  refine jw_ldcwS (pc' := 5) rfl rfl rfl rfl ?_
  obtain ⟨g_1, w⟩ := w
  refine jw_cV (st := []) (sa := [vR 41 r0, vI x1, vR 51 (jcs D 226)]) okX8_must rfl rfl rfl rfl rfl rfl (jstp_virtual (sa := [vI x1, vR 51 (jcs D 226)]) (st := []) (k := 0) rfl rfl sX8_must okX8_must g_1 (one41.k g_1) rfl rfl) w (fun h_2 _ _ w => ?_)
  exact jw_return rfl rfl w
def T_X8_whole (D : JD) (d : Nat) (Q : JO → JH → Prop) (r0 : Nat) (x1 : Int32) (h : JH) : Prop := W_X8_whole_0 D d Q r0 x1 h
theorem t_X8_whole {D : JD} {d : Nat} {Q : JO → JH → Prop} {r0 : Nat} {x1 : Int32} {h : JH} (w : T_X8_whole D d Q r0 x1 h) : cX8_whole D (d + 1) r0 x1 h Q := by
  unfold T_X8_whole at w
  unfold cX8_whole
  exact w_X8_whole_0 w
def W_X8_must_0 (D : JD) (d : Nat) (Q : JO → JH → Prop) (r0 : Nat) (x1 : Int32) (r2 : Nat) (h : JH) : Prop :=
  (¬ x1 = 0 → Q (.inl none) h) ∧ (x1 = 0 → r0 ≠ 0 ∧ (cX8_fail D d r0 r2 h (pR D h 42 (fun v_5 h_3 => v_5 ≠ 0 ∧ (Q (.inr v_5) h_3)) (jth Q))))
theorem w_X8_must_0 {D : JD} {d : Nat} {Q : JO → JH → Prop} {r0 : Nat} {x1 : Int32} {r2 : Nat} {h : JH} (w : W_X8_must_0 D d Q r0 x1 r2 h) : JW D (d + 1) mX8_must 0 [some (vR 41 r0), some (vI x1), some (vR 64 r2)] [] h Q := by
  unfold W_X8_must_0 at w
  refine jw_iload_n (pc' := 1) rfl rfl ?_
  refine jw_if_ne (tgt := 10) (pc' := 4) rfl rfl (fun c_1 => ?_) (fun c_1 => ?_)
  · replace w := w.1 c_1
    exact jw_return rfl rfl w
  · replace w := w.2 c_1
    refine jw_aload_n (pc' := 5) rfl rfl ?_
    refine jw_aload_n (pc' := 6) rfl rfl ?_
    obtain ⟨g_2, w⟩ := w
    refine jw_cR (st := []) (sa := [vR 41 r0, vR 64 r2]) okX8_fail rfl rfl rfl rfl rfl rfl (jstp_virtual (sa := [vR 64 r2]) (st := []) (k := 0) rfl rfl sX8_fail okX8_fail g_2 (one41.k g_2) rfl rfl) w (fun v_5 h_3 _ _ _ w => ?_)
    obtain ⟨g_6, w⟩ := w
    exact jw_athrow rfl rfl g_6 w
def T_X8_must (D : JD) (d : Nat) (Q : JO → JH → Prop) (r0 : Nat) (x1 : Int32) (r2 : Nat) (h : JH) : Prop := W_X8_must_0 D d Q r0 x1 r2 h
theorem t_X8_must {D : JD} {d : Nat} {Q : JO → JH → Prop} {r0 : Nat} {x1 : Int32} {r2 : Nat} {h : JH} (w : T_X8_must D d Q r0 x1 r2 h) : cX8_must D (d + 1) r0 x1 r2 h Q := by
  unfold T_X8_must at w
  unfold cX8_must
  exact w_X8_must_0 w
def W_X8_fail_0 (D : JD) (d : Nat) (Q : JO → JH → Prop) (r0 : Nat) (r1 : Nat) (h : JH) : Prop :=
  r0 ≠ 0 ∧ ((jfr h 175 r0) ≠ 0 ∧ jfi h 330 (jfr h 175 r0) ≠ 0 ∧ ∀ h_4 : JH, h_4 = wfr h 245 (jfr h 175 r0) r1 → ((jfr h_4 175 r0) ≠ 0 ∧ jfi h_4 330 (jfr h_4 175 r0) ≠ 0 ∧ ∀ h_8 : JH, h_8 = wfi h_4 246 (jfr h_4 175 r0) (0 : Int32) → (Q (.inl (some (vR 42 (jfr h_8 175 r0)))) h_8)))
theorem w_X8_fail_0 {D : JD} {d : Nat} {Q : JO → JH → Prop} {r0 : Nat} {r1 : Nat} {h : JH} (w : W_X8_fail_0 D d Q r0 r1 h) : JW D (d + 1) mX8_fail 0 [some (vR 41 r0), some (vR 64 r1)] [] h Q := by
  unfold W_X8_fail_0 at w
  refine jw_aload_n (pc' := 1) rfl rfl ?_
  obtain ⟨g_1, w⟩ := w
  refine jw_getR (pc' := 4) (F := 175) (t' := 42) rfl rfl rfl rfl rfl g_1 ?_
  refine jw_aload_n (pc' := 5) rfl rfl ?_
  obtain ⟨g_2, w⟩ := w
  obtain ⟨g_3, w⟩ := w
  refine jw_putR' (pc' := 8) (F := 245) rfl rfl rfl (Or.inr rfl) (Or.inl rfl) rfl rfl rfl g_2 (fun h_4 e_5 => ?_) (hx := Or.inr g_3)
  replace w := w h_4 e_5
  refine jw_aload_n (pc' := 9) rfl rfl ?_
  refine jw_getR (pc' := 12) (F := 175) (t' := 42) rfl rfl rfl rfl rfl g_1 ?_
  refine jw_iconst (pc' := 13) (x := (0 : Int32)) rfl rfl ?_
  obtain ⟨g_6, w⟩ := w
  obtain ⟨g_7, w⟩ := w
  refine jw_putI' (pc' := 16) (F := 246) rfl rfl rfl (Or.inr rfl) (Or.inl rfl) rfl (rfl) (rfl) rfl g_6 (fun h_8 e_9 => ?_) (hx := Or.inr g_7)
  replace w := w h_8 e_9
  refine jw_aload_n (pc' := 17) rfl rfl ?_
  refine jw_getR (pc' := 20) (F := 175) (t' := 42) rfl rfl rfl rfl rfl g_1 ?_
  exact jw_areturn rfl rfl rfl rfl rfl w
def T_X8_fail (D : JD) (d : Nat) (Q : JO → JH → Prop) (r0 : Nat) (r1 : Nat) (h : JH) : Prop := W_X8_fail_0 D d Q r0 r1 h
theorem t_X8_fail {D : JD} {d : Nat} {Q : JO → JH → Prop} {r0 : Nat} {r1 : Nat} {h : JH} (w : T_X8_fail D d Q r0 r1 h) : cX8_fail D (d + 1) r0 r1 h Q := by
  unfold T_X8_fail at w
  unfold cX8_fail
  exact w_X8_fail_0 w
def W_X8_say_51 (D : JD) (d : Nat) (Q : JO → JH → Prop) (r0 : Nat) (x1 : Int32) (h : JH) : Prop :=
  r0 ≠ 0 ∧ ((jfr h 226 r0) ≠ 0 ∧ jin (jfi h 227 r0) (jln h (jfr h 226 r0)) ∧ ∀ h_4 : JH, h_4 = wai h (jfr h 226 r0) (ixn (jfi h 227 r0)) ((Int32.toInt8 ((Int32.toInt8 x1).toInt32)).toInt32) → (∀ h_6 : JH, h_6 = wfi h_4 227 r0 ((jfi h_4 227 r0) + (1 : Int32)) → (Q (.inl none) h_6)))
theorem w_X8_say_51 {D : JD} {d : Nat} {Q : JO → JH → Prop} {r0 : Nat} {x1 : Int32} {h : JH} (w : W_X8_say_51 D d Q r0 x1 h) : JW D (d + 1) mX8_say 51 [some (vR 41 r0), some (vI x1), none, none] [] h Q := by
  unfold W_X8_say_51 at w
  refine jw_aload_n (pc' := 52) rfl rfl ?_
  obtain ⟨g_1, w⟩ := w
  refine jw_getR (pc' := 55) (F := 226) (t' := 180) rfl rfl rfl rfl rfl g_1 ?_
  refine jw_aload_n (pc' := 56) rfl rfl ?_
  refine jw_getI (pc' := 59) (F := 227) rfl rfl rfl rfl g_1 ?_
  refine jw_iload_n (pc' := 60) rfl rfl ?_
  refine jw_i2b (pc' := 61) rfl ?_
  obtain ⟨g_2, w⟩ := w
  obtain ⟨g_3, w⟩ := w
  refine jw_bast' (pc' := 62) rfl rfl rfl rfl rfl g_2 g_3 (fun h_4 e_5 => ?_)
  replace w := w h_4 e_5
  refine jw_aload_n (pc' := 63) rfl rfl ?_
  refine jw_dup (pc' := 64) rfl rfl ?_
  refine jw_getI (pc' := 67) (F := 227) rfl rfl rfl rfl g_1 ?_
  refine jw_iconst (pc' := 68) (x := (1 : Int32)) rfl rfl ?_
  refine jw_iadd (pc' := 69) rfl ?_
  refine jw_putI' (pc' := 72) (F := 227) rfl rfl rfl (Or.inr rfl) (Or.inl rfl) rfl (rfl) (rfl) rfl g_1 (fun h_6 e_7 => ?_)
  replace w := w h_6 e_7
  exact jw_return rfl rfl w
def W_X8_say_23 (D : JD) (d : Nat) (Q : JO → JH → Prop) (K23 : Nat → Int32 → Nat → Int32 → JH → Prop) (r0 : Nat) (x1 : Int32) (r2 : Nat) (x3 : Int32) (h : JH) : Prop :=
  r0 ≠ 0 ∧ (((jfi h 227 r0) ≤ x3 → ∀ h_3 : JH, h_3 = wfr h 226 r0 r2 → (W_X8_say_51 D d Q r0 x1 h_3)) ∧ (¬ (jfi h 227 r0) ≤ x3 → (jfr h 226 r0) ≠ 0 ∧ jin x3 (jln h (jfr h 226 r0)) ∧ (r2 ≠ 0 ∧ jin x3 (jln h r2) ∧ ∀ h_9 : JH, h_9 = wai h r2 (ixn x3) ((Int32.toInt8 (jai h (jfr h 226 r0) (ixn x3))).toInt32) → (K23 r0 x1 r2 (x3 + (1 : Int32)) h_9))))
theorem w_X8_say_23 {D : JD} {d : Nat} {Q : JO → JH → Prop} {K23 : Nat → Int32 → Nat → Int32 → JH → Prop} {r0 : Nat} {x1 : Int32} {r2 : Nat} {x3 : Int32} {h : JH} (hK23 : ∀ (r0 : Nat) (x1 : Int32) (r2 : Nat) (x3 : Int32) (h : JH), K23 r0 x1 r2 x3 h → JW D (d + 1) mX8_say 23 [some (vR 41 r0), some (vI x1), some (vR 180 r2), some (vI x3)] [] h Q) (w : W_X8_say_23 D d Q K23 r0 x1 r2 x3 h) : JW D (d + 1) mX8_say 23 [some (vR 41 r0), some (vI x1), some (vR 180 r2), some (vI x3)] [] h Q := by
  unfold W_X8_say_23 at w
  refine jw_iload_n (pc' := 24) rfl rfl ?_
  refine jw_aload_n (pc' := 25) rfl rfl ?_
  obtain ⟨g_1, w⟩ := w
  refine jw_getI (pc' := 28) (F := 227) rfl rfl rfl rfl g_1 ?_
  refine jw_icmp_ge (tgt := 46) (pc' := 31) rfl rfl (fun c_2 => ?_) (fun c_2 => ?_)
  · replace w := w.1 c_2
    refine jw_aload_n (pc' := 47) rfl rfl ?_
    refine jw_aload_n (pc' := 48) rfl rfl ?_
    refine jw_putR' (pc' := 51) (F := 226) rfl rfl rfl (Or.inr rfl) (Or.inl rfl) rfl rfl rfl g_1 (fun h_3 e_4 => ?_)
    replace w := w h_3 e_4
    refine jw_gen (ls' := [some (vR 41 r0), some (vI x1), none, none]) (st' := []) (And.intro (Or.inl rfl) (And.intro (Or.inl rfl) (trivial))) (trivial) ?_
    exact w_X8_say_51 w
  · replace w := w.2 c_2
    refine jw_aload_n (pc' := 32) rfl rfl ?_
    refine jw_iload_n (pc' := 33) rfl rfl ?_
    refine jw_aload_n (pc' := 34) rfl rfl ?_
    refine jw_getR (pc' := 37) (F := 226) (t' := 180) rfl rfl rfl rfl rfl g_1 ?_
    refine jw_iload_n (pc' := 38) rfl rfl ?_
    obtain ⟨g_5, w⟩ := w
    obtain ⟨g_6, w⟩ := w
    refine jw_bald (pc' := 39) rfl rfl rfl rfl g_5 g_6.ix g_6.2 ?_
    obtain ⟨g_7, w⟩ := w
    obtain ⟨g_8, w⟩ := w
    refine jw_bast' (pc' := 40) rfl rfl rfl rfl rfl g_7 g_8 (fun h_9 e_10 => ?_)
    replace w := w h_9 e_10
    refine jw_iinc (pc' := 43) (y := x3 + (1 : Int32)) (ls' := [some (vR 41 r0), some (vI x1), some (vR 180 r2), some (vI (x3 + (1 : Int32)))]) rfl (by decide) rfl rfl rfl ?_
    refine jw_goto (pc' := 23) rfl rfl ?_
    exact hK23 _ _ _ _ _ w
def L_X8_say_23 (D : JD) (d : Nat) (Q : JO → JH → Prop) : Nat → Nat → Int32 → Nat → Int32 → JH → Prop
  | 0 => fun _ _ _ _ _ => False
  | n + 1 => fun r0 x1 r2 x3 h => W_X8_say_23 D d Q (L_X8_say_23 D d Q n) r0 x1 r2 x3 h
theorem l_X8_say_23 {D : JD} {d : Nat} {Q : JO → JH → Prop} : ∀ (n : Nat) (r0 : Nat) (x1 : Int32) (r2 : Nat) (x3 : Int32) (h : JH), L_X8_say_23 D d Q n r0 x1 r2 x3 h → JW D (d + 1) mX8_say 23 [some (vR 41 r0), some (vI x1), some (vR 180 r2), some (vI x3)] [] h Q := by
  intro n
  induction n with
  | zero => intro _ _ _ _ _ w; exact w.elim
  | succ n ih => intro _ _ _ _ h w; exact w_X8_say_23 ih w
def W_X8_say_0 (D : JD) (d : Nat) (Q : JO → JH → Prop) (r0 : Nat) (x1 : Int32) (h : JH) : Prop :=
  r0 ≠ 0 ∧ ((jfr h 226 r0) ≠ 0 ∧ ((¬ (jfi h 227 r0) = (nI (jln h (jfr h 226 r0))) → W_X8_say_51 D d Q r0 x1 h) ∧ ((jfi h 227 r0) = (nI (jln h (jfr h 226 r0))) → jsm ((2 : Int32) * (jfi h 227 r0)) ∧ ∀ (r_4 : Nat) (h_5 : JH), r_4 = jsz h + 1 → h_5 = nwa h 180 (ixn ((2 : Int32) * (jfi h 227 r0))) → (∃ n, L_X8_say_23 D d Q n r0 x1 r_4 (0 : Int32) h_5))))
theorem w_X8_say_0 {D : JD} {d : Nat} {Q : JO → JH → Prop} {r0 : Nat} {x1 : Int32} {h : JH} (w : W_X8_say_0 D d Q r0 x1 h) : JW D (d + 1) mX8_say 0 [some (vR 41 r0), some (vI x1), none, none] [] h Q := by
  unfold W_X8_say_0 at w
  refine jw_aload_n (pc' := 1) rfl rfl ?_
  obtain ⟨g_1, w⟩ := w
  refine jw_getI (pc' := 4) (F := 227) rfl rfl rfl rfl g_1 ?_
  refine jw_aload_n (pc' := 5) rfl rfl ?_
  refine jw_getR (pc' := 8) (F := 226) (t' := 180) rfl rfl rfl rfl rfl g_1 ?_
  obtain ⟨g_2, w⟩ := w
  refine jw_alen (pc' := 9) rfl rfl g_2 ?_
  refine jw_icmp_ne (tgt := 51) (pc' := 12) rfl rfl (fun c_3 => ?_) (fun c_3 => ?_)
  · replace w := w.1 c_3
    exact w_X8_say_51 w
  · replace w := w.2 c_3
    refine jw_iconst (pc' := 13) (x := (2 : Int32)) rfl rfl ?_
    refine jw_aload_n (pc' := 14) rfl rfl ?_
    refine jw_getI (pc' := 17) (F := 227) rfl rfl rfl rfl g_1 ?_
    refine jw_imul (pc' := 18) rfl ?_
    obtain ⟨g_8, w⟩ := w
    refine jw_newa' (pc' := 20) (n := ixn ((2 : Int32) * (jfi h 227 r0))) (k := 180) rfl rfl rfl rfl rfl rfl (lw_g (jtb_mem (c := 1) (i := 105) rfl) rfl) g_8.ix g_8.b1 (fun r_4 h_5 e_6 e_7 => ?_)
    replace w := w r_4 h_5 e_6 e_7
    refine jw_astore_n (pc' := 21) (ls' := [some (vR 41 r0), some (vI x1), some (vR 180 r_4), none]) rfl (by decide) rfl ?_
    refine jw_iconst (pc' := 22) (x := (0 : Int32)) rfl rfl ?_
    refine jw_istore_n (pc' := 23) (ls' := [some (vR 41 r0), some (vI x1), some (vR 180 r_4), some (vI (0 : Int32))]) rfl (by decide) rfl ?_
    obtain ⟨n, w⟩ := w
    exact l_X8_say_23 n _ _ _ _ _ w
def T_X8_say (D : JD) (d : Nat) (Q : JO → JH → Prop) (r0 : Nat) (x1 : Int32) (h : JH) : Prop := W_X8_say_0 D d Q r0 x1 h
theorem t_X8_say {D : JD} {d : Nat} {Q : JO → JH → Prop} {r0 : Nat} {x1 : Int32} {h : JH} (w : T_X8_say D d Q r0 x1 h) : cX8_say D (d + 1) r0 x1 h Q := by
  unfold T_X8_say at w
  unfold cX8_say
  exact w_X8_say_0 w
def W_X8_stringOf_15 (D : JD) (d : Nat) (Q : JO → JH → Prop) (K15 : Nat → Nat → Int32 → JH → Prop) (r0 : Nat) (r2 : Nat) (x3 : Int32) (h : JH) : Prop :=
  r0 ≠ 0 ∧ ((((jfi h 238 r0) - (1 : Int32)) ≤ x3 → r2 ≠ 0 ∧ (cJ13_toString D d r2 h (pR D h 64 (fun v_6 h_4 => Q (.inl (some (vR 64 v_6))) h_4) (jth Q)))) ∧ (¬ ((jfi h 238 r0) - (1 : Int32)) ≤ x3 → cX8_b D d r0 x3 h (pI D h (fun v_9 h_7 => r2 ≠ 0 ∧ (cJ13_append D d r2 ((Int32.toUInt32 v_9 % 65536).toInt32) h_7 (pR D h_7 11 (fun v_13 h_11 => K15 r0 r2 (x3 + (1 : Int32)) h_11) (jth Q)))) (jth Q))))
theorem w_X8_stringOf_15 {D : JD} {d : Nat} {Q : JO → JH → Prop} {K15 : Nat → Nat → Int32 → JH → Prop} {r0 : Nat} {r2 : Nat} {x3 : Int32} {h : JH} (hK15 : ∀ (r0 : Nat) (r2 : Nat) (x3 : Int32) (h : JH), K15 r0 r2 x3 h → JW D (d + 1) mX8_stringOf 15 [some (vR 41 r0), none, some (vR 11 r2), some (vI x3)] [] h Q) (w : W_X8_stringOf_15 D d Q K15 r0 r2 x3 h) : JW D (d + 1) mX8_stringOf 15 [some (vR 41 r0), none, some (vR 11 r2), some (vI x3)] [] h Q := by
  unfold W_X8_stringOf_15 at w
  refine jw_iload_n (pc' := 16) rfl rfl ?_
  refine jw_aload_n (pc' := 17) rfl rfl ?_
  obtain ⟨g_1, w⟩ := w
  refine jw_getI (pc' := 20) (F := 238) rfl rfl rfl rfl g_1 ?_
  refine jw_iconst (pc' := 21) (x := (1 : Int32)) rfl rfl ?_
  refine jw_isub (pc' := 22) rfl ?_
  refine jw_icmp_ge (tgt := 42) (pc' := 25) rfl rfl (fun c_2 => ?_) (fun c_2 => ?_)
  · replace w := w.1 c_2
    refine jw_aload_n (pc' := 43) rfl rfl ?_
    obtain ⟨g_3, w⟩ := w
    refine jw_cR (st := []) (sa := [vR 11 r2]) okJ13_toString rfl rfl rfl rfl rfl rfl (jstp_virtual (sa := []) (st := []) (k := 0) rfl rfl sJ13_toString okJ13_toString g_3 (one11.k g_3) rfl rfl) w (fun v_6 h_4 _ _ _ w => ?_)
    exact jw_areturn rfl rfl rfl rfl rfl w
  · replace w := w.2 c_2
    refine jw_aload_n (pc' := 26) rfl rfl ?_
    refine jw_aload_n (pc' := 27) rfl rfl ?_
    refine jw_iload_n (pc' := 28) rfl rfl ?_
    refine jw_cI (st := [vR 11 r2]) (sa := [vR 41 r0, vI x3]) okX8_b rfl rfl rfl rfl rfl rfl (jstp_virtual (sa := [vI x3]) (st := [vR 11 r2]) (k := 0) rfl rfl sX8_b okX8_b g_1 (one41.k g_1) rfl rfl) w (fun v_9 h_7 _ _ w => ?_)
    refine jw_i2c (pc' := 32) rfl ?_
    obtain ⟨g_10, w⟩ := w
    refine jw_cR (st := []) (sa := [vR 11 r2, vI ((Int32.toUInt32 v_9 % 65536).toInt32)]) okJ13_append rfl rfl rfl rfl rfl rfl (jstp_virtual (sa := [vI ((Int32.toUInt32 v_9 % 65536).toInt32)]) (st := []) (k := 0) rfl rfl sJ13_append okJ13_append g_10 (one11.k g_10) rfl rfl) w (fun v_13 h_11 _ _ _ w => ?_)
    refine jw_pop (pc' := 36) rfl rfl ?_
    refine jw_iinc (pc' := 39) (y := x3 + (1 : Int32)) (ls' := [some (vR 41 r0), none, some (vR 11 r2), some (vI (x3 + (1 : Int32)))]) rfl (by decide) rfl rfl rfl ?_
    refine jw_goto (pc' := 15) rfl rfl ?_
    exact hK15 _ _ _ _ w
def L_X8_stringOf_15 (D : JD) (d : Nat) (Q : JO → JH → Prop) : Nat → Nat → Nat → Int32 → JH → Prop
  | 0 => fun _ _ _ _ => False
  | n + 1 => fun r0 r2 x3 h => W_X8_stringOf_15 D d Q (L_X8_stringOf_15 D d Q n) r0 r2 x3 h
theorem l_X8_stringOf_15 {D : JD} {d : Nat} {Q : JO → JH → Prop} : ∀ (n : Nat) (r0 : Nat) (r2 : Nat) (x3 : Int32) (h : JH), L_X8_stringOf_15 D d Q n r0 r2 x3 h → JW D (d + 1) mX8_stringOf 15 [some (vR 41 r0), none, some (vR 11 r2), some (vI x3)] [] h Q := by
  intro n
  induction n with
  | zero => intro _ _ _ _ w; exact w.elim
  | succ n ih => intro _ _ _ h w; exact w_X8_stringOf_15 ih w
def W_X8_stringOf_0 (D : JD) (d : Nat) (Q : JO → JH → Prop) (r0 : Nat) (h : JH) : Prop :=
  r0 ≠ 0 ∧ (cX8_string D d r0 h (pI D h (fun v_4 h_2 => ∀ (r_5 : Nat) (h_6 : JH), r_5 = jsz h_2 + 1 → h_6 = nwo h_2 11 4 → (cJ13_init D d r_5 h_6 (pV D h_6 (fun h_9 => ∃ n, L_X8_stringOf_15 D d Q n r0 r_5 v_4 h_9) (jth Q)))) (jth Q)))
theorem w_X8_stringOf_0 {D : JD} {d : Nat} {Q : JO → JH → Prop} {r0 : Nat} {h : JH} (w : W_X8_stringOf_0 D d Q r0 h) : JW D (d + 1) mX8_stringOf 0 [some (vR 41 r0), none, none, none] [] h Q := by
  unfold W_X8_stringOf_0 at w
  refine jw_aload_n (pc' := 1) rfl rfl ?_
  obtain ⟨g_1, w⟩ := w
  refine jw_cI (st := []) (sa := [vR 41 r0]) okX8_string rfl rfl rfl rfl rfl rfl (jstp_virtual (sa := []) (st := []) (k := 0) rfl rfl sX8_string okX8_string g_1 (one41.k g_1) rfl rfl) w (fun v_4 h_2 _ _ w => ?_)
  refine jw_istore_n (pc' := 5) (ls' := [some (vR 41 r0), some (vI v_4), none, none]) rfl (by decide) rfl ?_
  refine jw_new' (pc' := 8) (k := 11) (n := 4) rfl rfl rfl rfl rfl rfl rfl (fun r_5 h_6 e_7 e_8 => ?_)
  replace w := w r_5 h_6 e_7 e_8
  refine jw_dup (pc' := 9) rfl rfl ?_
  refine jw_cV (st := [vR 11 r_5]) (sa := [vR 11 r_5]) okJ13_init rfl rfl rfl rfl rfl rfl (jstp_init (sa := []) (st := [vR 11 r_5]) rfl rfl sJ13_init okJ13_init (lw_g (jtb_mem (c := 3) (i := 134) rfl) rfl) (jnz e_7) rfl rfl) w (fun h_9 _ _ w => ?_)
  refine jw_astore_n (pc' := 13) (ls' := [some (vR 41 r0), some (vI v_4), some (vR 11 r_5), none]) rfl (by decide) rfl ?_
  refine jw_iload_n (pc' := 14) rfl rfl ?_
  refine jw_istore_n (pc' := 15) (ls' := [some (vR 41 r0), some (vI v_4), some (vR 11 r_5), some (vI v_4)]) rfl (by decide) rfl ?_
  refine jw_gen (ls' := [some (vR 41 r0), none, some (vR 11 r_5), some (vI v_4)]) (st' := []) (And.intro (Or.inl rfl) (And.intro (Or.inl rfl) (And.intro (Or.inl rfl) (trivial)))) (trivial) ?_
  obtain ⟨n, w⟩ := w
  exact l_X8_stringOf_15 n _ _ _ _ w
def T_X8_stringOf (D : JD) (d : Nat) (Q : JO → JH → Prop) (r0 : Nat) (h : JH) : Prop := W_X8_stringOf_0 D d Q r0 h
theorem t_X8_stringOf {D : JD} {d : Nat} {Q : JO → JH → Prop} {r0 : Nat} {h : JH} (w : T_X8_stringOf D d Q r0 h) : cX8_stringOf D (d + 1) r0 h Q := by
  unfold T_X8_stringOf at w
  unfold cX8_stringOf
  exact w_X8_stringOf_0 w
def W_X8_string_42 (D : JD) (d : Nat) (Q : JO → JH → Prop) (r0 : Nat) (x1 : Int32) (q0 : Nat) (s1 : Int32) (h : JH) : Prop :=
  q0 ≠ 0 ∧ (cX8_whole D d q0 s1 h (pV D h (fun h_2 => r0 ≠ 0 ∧ (∀ h_6 : JH, h_6 = wfi h_2 238 r0 (x1 + (1 : Int32)) → (Q (.inl (some (vI (jfi h_2 238 r0)))) h_6))) (jth Q)))
theorem w_X8_string_42 {D : JD} {d : Nat} {Q : JO → JH → Prop} {r0 : Nat} {x1 : Int32} {q0 : Nat} {s1 : Int32} {h : JH} (w : W_X8_string_42 D d Q r0 x1 q0 s1 h) : JW D (d + 1) mX8_string 42 [some (vR 41 r0), some (vI x1), none] [vI s1, vR 41 q0] h Q := by
  unfold W_X8_string_42 at w
  obtain ⟨g_1, w⟩ := w
  refine jw_cV (st := []) (sa := [vR 41 q0, vI s1]) okX8_whole rfl rfl rfl rfl rfl rfl (jstp_virtual (sa := [vI s1]) (st := []) (k := 0) rfl rfl sX8_whole okX8_whole g_1 (one41.k g_1) rfl rfl) w (fun h_2 _ _ w => ?_)
  refine jw_aload_n (pc' := 46) rfl rfl ?_
  obtain ⟨g_5, w⟩ := w
  refine jw_getI (pc' := 49) (F := 238) rfl rfl rfl rfl g_5 ?_
  refine jw_istore_n (pc' := 50) (ls' := [some (vR 41 r0), some (vI x1), some (vI (jfi h_2 238 r0))]) rfl (by decide) rfl ?_
  refine jw_aload_n (pc' := 51) rfl rfl ?_
  refine jw_iload_n (pc' := 52) rfl rfl ?_
  refine jw_iconst (pc' := 53) (x := (1 : Int32)) rfl rfl ?_
  refine jw_iadd (pc' := 54) rfl ?_
  refine jw_putI' (pc' := 57) (F := 238) rfl rfl rfl (Or.inr rfl) (Or.inl rfl) rfl (rfl) (rfl) rfl g_5 (fun h_6 e_7 => ?_)
  replace w := w h_6 e_7
  refine jw_iload_n (pc' := 58) rfl rfl ?_
  exact jw_ireturn rfl rfl (rfl) w
def W_X8_string_28 (D : JD) (d : Nat) (Q : JO → JH → Prop) (r0 : Nat) (x1 : Int32) (h : JH) : Prop :=
  r0 ≠ 0 ∧ (((jfi h 239 r0) ≤ x1 → W_X8_string_42 D d Q r0 x1 r0 (0 : Int32) h) ∧ (¬ (jfi h 239 r0) ≤ x1 → W_X8_string_42 D d Q r0 x1 r0 (1 : Int32) h))
theorem w_X8_string_28 {D : JD} {d : Nat} {Q : JO → JH → Prop} {r0 : Nat} {x1 : Int32} {h : JH} (w : W_X8_string_28 D d Q r0 x1 h) : JW D (d + 1) mX8_string 28 [some (vR 41 r0), some (vI x1), none] [] h Q := by
  unfold W_X8_string_28 at w
  refine jw_aload_n (pc' := 29) rfl rfl ?_
  refine jw_iload_n (pc' := 30) rfl rfl ?_
  refine jw_aload_n (pc' := 31) rfl rfl ?_
  obtain ⟨g_1, w⟩ := w
  refine jw_getI (pc' := 34) (F := 239) rfl rfl rfl rfl g_1 ?_
  refine jw_icmp_ge (tgt := 41) (pc' := 37) rfl rfl (fun c_2 => ?_) (fun c_2 => ?_)
  · replace w := w.1 c_2
    refine jw_iconst (pc' := 42) (x := (0 : Int32)) rfl rfl ?_
    exact w_X8_string_42 w
  · replace w := w.2 c_2
    refine jw_iconst (pc' := 38) (x := (1 : Int32)) rfl rfl ?_
    refine jw_goto (pc' := 42) rfl rfl ?_
    exact w_X8_string_42 w
def W_X8_string_5 (D : JD) (d : Nat) (Q : JO → JH → Prop) (K5 : Nat → Int32 → JH → Prop) (r0 : Nat) (x1 : Int32) (h : JH) : Prop :=
  r0 ≠ 0 ∧ (((jfi h 239 r0) ≤ x1 → W_X8_string_28 D d Q r0 x1 h) ∧ (¬ (jfi h 239 r0) ≤ x1 → (jfr h 224 r0) ≠ 0 ∧ jin x1 (jln h (jfr h 224 r0)) ∧ (((jai h (jfr h 224 r0) (ixn x1)) = 0 → W_X8_string_28 D d Q r0 x1 h) ∧ (¬ (jai h (jfr h 224 r0) (ixn x1)) = 0 → K5 r0 (x1 + (1 : Int32)) h))))
theorem w_X8_string_5 {D : JD} {d : Nat} {Q : JO → JH → Prop} {K5 : Nat → Int32 → JH → Prop} {r0 : Nat} {x1 : Int32} {h : JH} (hK5 : ∀ (r0 : Nat) (x1 : Int32) (h : JH), K5 r0 x1 h → JW D (d + 1) mX8_string 5 [some (vR 41 r0), some (vI x1), none] [] h Q) (w : W_X8_string_5 D d Q K5 r0 x1 h) : JW D (d + 1) mX8_string 5 [some (vR 41 r0), some (vI x1), none] [] h Q := by
  unfold W_X8_string_5 at w
  refine jw_iload_n (pc' := 6) rfl rfl ?_
  refine jw_aload_n (pc' := 7) rfl rfl ?_
  obtain ⟨g_1, w⟩ := w
  refine jw_getI (pc' := 10) (F := 239) rfl rfl rfl rfl g_1 ?_
  refine jw_icmp_ge (tgt := 28) (pc' := 13) rfl rfl (fun c_2 => ?_) (fun c_2 => ?_)
  · replace w := w.1 c_2
    exact w_X8_string_28 w
  · replace w := w.2 c_2
    refine jw_aload_n (pc' := 14) rfl rfl ?_
    refine jw_getR (pc' := 17) (F := 224) (t' := 179) rfl rfl rfl rfl rfl g_1 ?_
    refine jw_iload_n (pc' := 18) rfl rfl ?_
    obtain ⟨g_3, w⟩ := w
    obtain ⟨g_4, w⟩ := w
    refine jw_bald (pc' := 19) rfl rfl rfl rfl g_3 g_4.ix g_4.2 ?_
    refine jw_if_eq (tgt := 28) (pc' := 22) rfl rfl (fun c_5 => ?_) (fun c_5 => ?_)
    · replace w := w.1 c_5
      exact w_X8_string_28 w
    · replace w := w.2 c_5
      refine jw_iinc (pc' := 25) (y := x1 + (1 : Int32)) (ls' := [some (vR 41 r0), some (vI (x1 + (1 : Int32))), none]) rfl (by decide) rfl rfl rfl ?_
      refine jw_goto (pc' := 5) rfl rfl ?_
      exact hK5 _ _ _ w
def L_X8_string_5 (D : JD) (d : Nat) (Q : JO → JH → Prop) : Nat → Nat → Int32 → JH → Prop
  | 0 => fun _ _ _ => False
  | n + 1 => fun r0 x1 h => W_X8_string_5 D d Q (L_X8_string_5 D d Q n) r0 x1 h
theorem l_X8_string_5 {D : JD} {d : Nat} {Q : JO → JH → Prop} : ∀ (n : Nat) (r0 : Nat) (x1 : Int32) (h : JH), L_X8_string_5 D d Q n r0 x1 h → JW D (d + 1) mX8_string 5 [some (vR 41 r0), some (vI x1), none] [] h Q := by
  intro n
  induction n with
  | zero => intro _ _ _ w; exact w.elim
  | succ n ih => intro _ _ h w; exact w_X8_string_5 ih w
def W_X8_string_0 (D : JD) (d : Nat) (Q : JO → JH → Prop) (r0 : Nat) (h : JH) : Prop :=
  r0 ≠ 0 ∧ (∃ n, L_X8_string_5 D d Q n r0 (jfi h 238 r0) h)
theorem w_X8_string_0 {D : JD} {d : Nat} {Q : JO → JH → Prop} {r0 : Nat} {h : JH} (w : W_X8_string_0 D d Q r0 h) : JW D (d + 1) mX8_string 0 [some (vR 41 r0), none, none] [] h Q := by
  unfold W_X8_string_0 at w
  refine jw_aload_n (pc' := 1) rfl rfl ?_
  obtain ⟨g_1, w⟩ := w
  refine jw_getI (pc' := 4) (F := 238) rfl rfl rfl rfl g_1 ?_
  refine jw_istore_n (pc' := 5) (ls' := [some (vR 41 r0), some (vI (jfi h 238 r0)), none]) rfl (by decide) rfl ?_
  obtain ⟨n, w⟩ := w
  exact l_X8_string_5 n _ _ _ w
def T_X8_string (D : JD) (d : Nat) (Q : JO → JH → Prop) (r0 : Nat) (h : JH) : Prop := W_X8_string_0 D d Q r0 h
theorem t_X8_string {D : JD} {d : Nat} {Q : JO → JH → Prop} {r0 : Nat} {h : JH} (w : T_X8_string D d Q r0 h) : cX8_string D (d + 1) r0 h Q := by
  unfold T_X8_string at w
  unfold cX8_string
  exact w_X8_string_0 w
def W_X8_begin_0 (D : JD) (d : Nat) (Q : JO → JH → Prop) (r0 : Nat) (x1 : Int32) (h : JH) : Prop :=
  r0 ≠ 0 ∧ (cX8_say D d r0 x1 h (pV D h (fun h_2 => ∀ h_5 : JH, h_5 = wfi h_2 237 r0 (jfi h_2 227 r0) → (cX8_say4 D d r0 (0 : Int32) h_5 (pV D h_5 (fun h_7 => Q (.inl none) h_7) (jth Q)))) (jth Q)))
theorem w_X8_begin_0 {D : JD} {d : Nat} {Q : JO → JH → Prop} {r0 : Nat} {x1 : Int32} {h : JH} (w : W_X8_begin_0 D d Q r0 x1 h) : JW D (d + 1) mX8_begin 0 [some (vR 41 r0), some (vI x1)] [] h Q := by
  unfold W_X8_begin_0 at w
  refine jw_aload_n (pc' := 1) rfl rfl ?_
  refine jw_iload_n (pc' := 2) rfl rfl ?_
  obtain ⟨g_1, w⟩ := w
  refine jw_cV (st := []) (sa := [vR 41 r0, vI x1]) okX8_say rfl rfl rfl rfl rfl rfl (jstp_virtual (sa := [vI x1]) (st := []) (k := 0) rfl rfl sX8_say okX8_say g_1 (one41.k g_1) rfl rfl) w (fun h_2 _ _ w => ?_)
  refine jw_aload_n (pc' := 6) rfl rfl ?_
  refine jw_aload_n (pc' := 7) rfl rfl ?_
  refine jw_getI (pc' := 10) (F := 227) rfl rfl rfl rfl g_1 ?_
  refine jw_putI' (pc' := 13) (F := 237) rfl rfl rfl (Or.inr rfl) (Or.inl rfl) rfl (rfl) (rfl) rfl g_1 (fun h_5 e_6 => ?_)
  replace w := w h_5 e_6
  refine jw_aload_n (pc' := 14) rfl rfl ?_
  refine jw_iconst (pc' := 15) (x := (0 : Int32)) rfl rfl ?_
  refine jw_cV (st := []) (sa := [vR 41 r0, vI (0 : Int32)]) okX8_say4 rfl rfl rfl rfl rfl rfl (jstp_virtual (sa := [vI (0 : Int32)]) (st := []) (k := 0) rfl rfl sX8_say4 okX8_say4 g_1 (one41.k g_1) rfl rfl) w (fun h_7 _ _ w => ?_)
  exact jw_return rfl rfl w
def T_X8_begin (D : JD) (d : Nat) (Q : JO → JH → Prop) (r0 : Nat) (x1 : Int32) (h : JH) : Prop := W_X8_begin_0 D d Q r0 x1 h
theorem t_X8_begin {D : JD} {d : Nat} {Q : JO → JH → Prop} {r0 : Nat} {x1 : Int32} {h : JH} (w : T_X8_begin D d Q r0 x1 h) : cX8_begin D (d + 1) r0 x1 h Q := by
  unfold T_X8_begin at w
  unfold cX8_begin
  exact w_X8_begin_0 w
def W_X8_say4_0 (D : JD) (d : Nat) (Q : JO → JH → Prop) (r0 : Nat) (x1 : Int32) (h : JH) : Prop :=
  r0 ≠ 0 ∧ (cX8_say2 D d r0 (x1 >>> ((16 : Int32) &&& 31)) h (pV D h (fun h_2 => cX8_say2 D d r0 x1 h_2 (pV D h_2 (fun h_5 => Q (.inl none) h_5) (jth Q))) (jth Q)))
theorem w_X8_say4_0 {D : JD} {d : Nat} {Q : JO → JH → Prop} {r0 : Nat} {x1 : Int32} {h : JH} (w : W_X8_say4_0 D d Q r0 x1 h) : JW D (d + 1) mX8_say4 0 [some (vR 41 r0), some (vI x1)] [] h Q := by
  unfold W_X8_say4_0 at w
  refine jw_aload_n (pc' := 1) rfl rfl ?_
  refine jw_iload_n (pc' := 2) rfl rfl ?_
  refine jw_bipush (pc' := 4) (x := (16 : Int32)) rfl rfl ?_
  refine jw_ishr (pc' := 5) rfl ?_
  obtain ⟨g_1, w⟩ := w
  refine jw_cV (st := []) (sa := [vR 41 r0, vI (x1 >>> ((16 : Int32) &&& 31))]) okX8_say2 rfl rfl rfl rfl rfl rfl (jstp_virtual (sa := [vI (x1 >>> ((16 : Int32) &&& 31))]) (st := []) (k := 0) rfl rfl sX8_say2 okX8_say2 g_1 (one41.k g_1) rfl rfl) w (fun h_2 _ _ w => ?_)
  refine jw_aload_n (pc' := 9) rfl rfl ?_
  refine jw_iload_n (pc' := 10) rfl rfl ?_
  refine jw_cV (st := []) (sa := [vR 41 r0, vI x1]) okX8_say2 rfl rfl rfl rfl rfl rfl (jstp_virtual (sa := [vI x1]) (st := []) (k := 0) rfl rfl sX8_say2 okX8_say2 g_1 (one41.k g_1) rfl rfl) w (fun h_5 _ _ w => ?_)
  exact jw_return rfl rfl w
def T_X8_say4 (D : JD) (d : Nat) (Q : JO → JH → Prop) (r0 : Nat) (x1 : Int32) (h : JH) : Prop := W_X8_say4_0 D d Q r0 x1 h
theorem t_X8_say4 {D : JD} {d : Nat} {Q : JO → JH → Prop} {r0 : Nat} {x1 : Int32} {h : JH} (w : T_X8_say4 D d Q r0 x1 h) : cX8_say4 D (d + 1) r0 x1 h Q := by
  unfold T_X8_say4 at w
  unfold cX8_say4
  exact w_X8_say4_0 w
def W_X8_say2_0 (D : JD) (d : Nat) (Q : JO → JH → Prop) (r0 : Nat) (x1 : Int32) (h : JH) : Prop :=
  r0 ≠ 0 ∧ (cX8_say D d r0 (x1 >>> ((8 : Int32) &&& 31)) h (pV D h (fun h_2 => cX8_say D d r0 x1 h_2 (pV D h_2 (fun h_5 => Q (.inl none) h_5) (jth Q))) (jth Q)))
theorem w_X8_say2_0 {D : JD} {d : Nat} {Q : JO → JH → Prop} {r0 : Nat} {x1 : Int32} {h : JH} (w : W_X8_say2_0 D d Q r0 x1 h) : JW D (d + 1) mX8_say2 0 [some (vR 41 r0), some (vI x1)] [] h Q := by
  unfold W_X8_say2_0 at w
  refine jw_aload_n (pc' := 1) rfl rfl ?_
  refine jw_iload_n (pc' := 2) rfl rfl ?_
  refine jw_bipush (pc' := 4) (x := (8 : Int32)) rfl rfl ?_
  refine jw_ishr (pc' := 5) rfl ?_
  obtain ⟨g_1, w⟩ := w
  refine jw_cV (st := []) (sa := [vR 41 r0, vI (x1 >>> ((8 : Int32) &&& 31))]) okX8_say rfl rfl rfl rfl rfl rfl (jstp_virtual (sa := [vI (x1 >>> ((8 : Int32) &&& 31))]) (st := []) (k := 0) rfl rfl sX8_say okX8_say g_1 (one41.k g_1) rfl rfl) w (fun h_2 _ _ w => ?_)
  refine jw_aload_n (pc' := 9) rfl rfl ?_
  refine jw_iload_n (pc' := 10) rfl rfl ?_
  refine jw_cV (st := []) (sa := [vR 41 r0, vI x1]) okX8_say rfl rfl rfl rfl rfl rfl (jstp_virtual (sa := [vI x1]) (st := []) (k := 0) rfl rfl sX8_say okX8_say g_1 (one41.k g_1) rfl rfl) w (fun h_5 _ _ w => ?_)
  exact jw_return rfl rfl w
def T_X8_say2 (D : JD) (d : Nat) (Q : JO → JH → Prop) (r0 : Nat) (x1 : Int32) (h : JH) : Prop := W_X8_say2_0 D d Q r0 x1 h
theorem t_X8_say2 {D : JD} {d : Nat} {Q : JO → JH → Prop} {r0 : Nat} {x1 : Int32} {h : JH} (w : T_X8_say2 D d Q r0 x1 h) : cX8_say2 D (d + 1) r0 x1 h Q := by
  unfold T_X8_say2 at w
  unfold cX8_say2
  exact w_X8_say2_0 w
def W_X8_close_12 (D : JD) (d : Nat) (Q : JO → JH → Prop) (K12 : Nat → Int32 → Int32 → JH → Prop) (r0 : Nat) (x1 : Int32) (x2 : Int32) (h : JH) : Prop :=
  ((4 : Int32) ≤ x2 → Q (.inl none) h) ∧ (¬ (4 : Int32) ≤ x2 → r0 ≠ 0 ∧ ((jfr h 226 r0) ≠ 0 ∧ jin ((jfi h 237 r0) + x2) (jln h (jfr h 226 r0)) ∧ ∀ h_5 : JH, h_5 = wai h (jfr h 226 r0) (ixn ((jfi h 237 r0) + x2)) ((Int32.toInt8 ((Int32.toInt8 ((Int32.toUInt32 x1 >>> (Int32.toUInt32 ((24 : Int32) - ((8 : Int32) * x2)) &&& Int32.toUInt32 31)).toInt32)).toInt32)).toInt32) → (K12 r0 x1 (x2 + (1 : Int32)) h_5)))
theorem w_X8_close_12 {D : JD} {d : Nat} {Q : JO → JH → Prop} {K12 : Nat → Int32 → Int32 → JH → Prop} {r0 : Nat} {x1 : Int32} {x2 : Int32} {h : JH} (hK12 : ∀ (r0 : Nat) (x1 : Int32) (x2 : Int32) (h : JH), K12 r0 x1 x2 h → JW D (d + 1) mX8_close 12 [some (vR 41 r0), some (vI x1), some (vI x2)] [] h Q) (w : W_X8_close_12 D d Q K12 r0 x1 x2 h) : JW D (d + 1) mX8_close 12 [some (vR 41 r0), some (vI x1), some (vI x2)] [] h Q := by
  unfold W_X8_close_12 at w
  refine jw_iload_n (pc' := 13) rfl rfl ?_
  refine jw_iconst (pc' := 14) (x := (4 : Int32)) rfl rfl ?_
  refine jw_icmp_ge (tgt := 44) (pc' := 17) rfl rfl (fun c_1 => ?_) (fun c_1 => ?_)
  · replace w := w.1 c_1
    exact jw_return rfl rfl w
  · replace w := w.2 c_1
    refine jw_aload_n (pc' := 18) rfl rfl ?_
    obtain ⟨g_2, w⟩ := w
    refine jw_getR (pc' := 21) (F := 226) (t' := 180) rfl rfl rfl rfl rfl g_2 ?_
    refine jw_aload_n (pc' := 22) rfl rfl ?_
    refine jw_getI (pc' := 25) (F := 237) rfl rfl rfl rfl g_2 ?_
    refine jw_iload_n (pc' := 26) rfl rfl ?_
    refine jw_iadd (pc' := 27) rfl ?_
    refine jw_iload_n (pc' := 28) rfl rfl ?_
    refine jw_bipush (pc' := 30) (x := (24 : Int32)) rfl rfl ?_
    refine jw_bipush (pc' := 32) (x := (8 : Int32)) rfl rfl ?_
    refine jw_iload_n (pc' := 33) rfl rfl ?_
    refine jw_imul (pc' := 34) rfl ?_
    refine jw_isub (pc' := 35) rfl ?_
    refine jw_iushr (pc' := 36) rfl ?_
    refine jw_i2b (pc' := 37) rfl ?_
    obtain ⟨g_3, w⟩ := w
    obtain ⟨g_4, w⟩ := w
    refine jw_bast' (pc' := 38) rfl rfl rfl rfl rfl g_3 g_4 (fun h_5 e_6 => ?_)
    replace w := w h_5 e_6
    refine jw_iinc (pc' := 41) (y := x2 + (1 : Int32)) (ls' := [some (vR 41 r0), some (vI x1), some (vI (x2 + (1 : Int32)))]) rfl (by decide) rfl rfl rfl ?_
    refine jw_goto (pc' := 12) rfl rfl ?_
    exact hK12 _ _ _ _ w
def L_X8_close_12 (D : JD) (d : Nat) (Q : JO → JH → Prop) : Nat → Nat → Int32 → Int32 → JH → Prop
  | 0 => fun _ _ _ _ => False
  | n + 1 => fun r0 x1 x2 h => W_X8_close_12 D d Q (L_X8_close_12 D d Q n) r0 x1 x2 h
theorem l_X8_close_12 {D : JD} {d : Nat} {Q : JO → JH → Prop} : ∀ (n : Nat) (r0 : Nat) (x1 : Int32) (x2 : Int32) (h : JH), L_X8_close_12 D d Q n r0 x1 x2 h → JW D (d + 1) mX8_close 12 [some (vR 41 r0), some (vI x1), some (vI x2)] [] h Q := by
  intro n
  induction n with
  | zero => intro _ _ _ _ w; exact w.elim
  | succ n ih => intro _ _ _ h w; exact w_X8_close_12 ih w
def W_X8_close_0 (D : JD) (d : Nat) (Q : JO → JH → Prop) (r0 : Nat) (h : JH) : Prop :=
  r0 ≠ 0 ∧ (∃ n, L_X8_close_12 D d Q n r0 ((jfi h 227 r0) - (jfi h 237 r0)) (0 : Int32) h)
theorem w_X8_close_0 {D : JD} {d : Nat} {Q : JO → JH → Prop} {r0 : Nat} {h : JH} (w : W_X8_close_0 D d Q r0 h) : JW D (d + 1) mX8_close 0 [some (vR 41 r0), none, none] [] h Q := by
  unfold W_X8_close_0 at w
  refine jw_aload_n (pc' := 1) rfl rfl ?_
  obtain ⟨g_1, w⟩ := w
  refine jw_getI (pc' := 4) (F := 227) rfl rfl rfl rfl g_1 ?_
  refine jw_aload_n (pc' := 5) rfl rfl ?_
  refine jw_getI (pc' := 8) (F := 237) rfl rfl rfl rfl g_1 ?_
  refine jw_isub (pc' := 9) rfl ?_
  refine jw_istore_n (pc' := 10) (ls' := [some (vR 41 r0), some (vI ((jfi h 227 r0) - (jfi h 237 r0))), none]) rfl (by decide) rfl ?_
  refine jw_iconst (pc' := 11) (x := (0 : Int32)) rfl rfl ?_
  refine jw_istore_n (pc' := 12) (ls' := [some (vR 41 r0), some (vI ((jfi h 227 r0) - (jfi h 237 r0))), some (vI (0 : Int32))]) rfl (by decide) rfl ?_
  obtain ⟨n, w⟩ := w
  exact l_X8_close_12 n _ _ _ _ w
def T_X8_close (D : JD) (d : Nat) (Q : JO → JH → Prop) (r0 : Nat) (h : JH) : Prop := W_X8_close_0 D d Q r0 h
theorem t_X8_close {D : JD} {d : Nat} {Q : JO → JH → Prop} {r0 : Nat} {h : JH} (w : T_X8_close D d Q r0 h) : cX8_close D (d + 1) r0 h Q := by
  unfold T_X8_close at w
  unfold cX8_close
  exact w_X8_close_0 w
def W_X8_password_100 (D : JD) (d : Nat) (Q : JO → JH → Prop) (r0 : Nat) (x3 : Int32) (h : JH) : Prop :=
  r0 ≠ 0 ∧ (cX8_must D d r0 x3 (jcs D 228) h (pV D h (fun h_2 => cX8_begin D d r0 (82 : Int32) h_2 (pV D h_2 (fun h_5 => cX8_say4 D d r0 (0 : Int32) h_5 (pV D h_5 (fun h_8 => cX8_close D d r0 h_8 (pV D h_8 (fun h_11 => cX8_begin D d r0 (83 : Int32) h_11 (pV D h_11 (fun h_14 => cX8_words D d r0 (jcs D 229) h_14 (pV D h_14 (fun h_17 => cX8_words D d r0 (jcs D 230) h_17 (pV D h_17 (fun h_20 => cX8_close D d r0 h_20 (pV D h_20 (fun h_23 => ∀ h_26 : JH, h_26 = wfi h_23 228 r0 (2 : Int32) → (cX8_ready D d r0 h_26 (pV D h_26 (fun h_28 => Q (.inl none) h_28) (jth Q)))) (jth Q))) (jth Q))) (jth Q))) (jth Q))) (jth Q))) (jth Q))) (jth Q))) (jth Q)))
theorem w_X8_password_100 {D : JD} {d : Nat} {Q : JO → JH → Prop} {r0 : Nat} {x3 : Int32} {h : JH} (w : W_X8_password_100 D d Q r0 x3 h) : JW D (d + 1) mX8_password 100 [some (vR 41 r0), none, none, some (vI x3), none] [] h Q := by
  unfold W_X8_password_100 at w
  refine jw_aload_n (pc' := 101) rfl rfl ?_
  refine jw_iload_n (pc' := 102) rfl rfl ?_
  refine jw_ldcwS (pc' := 105) rfl rfl rfl rfl ?_
  obtain ⟨g_1, w⟩ := w
  refine jw_cV (st := []) (sa := [vR 41 r0, vI x3, vR 51 (jcs D 228)]) okX8_must rfl rfl rfl rfl rfl rfl (jstp_virtual (sa := [vI x3, vR 51 (jcs D 228)]) (st := []) (k := 0) rfl rfl sX8_must okX8_must g_1 (one41.k g_1) rfl rfl) w (fun h_2 _ _ w => ?_)
  refine jw_aload_n (pc' := 109) rfl rfl ?_
  refine jw_bipush (pc' := 111) (x := (82 : Int32)) rfl rfl ?_
  refine jw_cV (st := []) (sa := [vR 41 r0, vI (82 : Int32)]) okX8_begin rfl rfl rfl rfl rfl rfl (jstp_virtual (sa := [vI (82 : Int32)]) (st := []) (k := 0) rfl rfl sX8_begin okX8_begin g_1 (one41.k g_1) rfl rfl) w (fun h_5 _ _ w => ?_)
  refine jw_aload_n (pc' := 115) rfl rfl ?_
  refine jw_iconst (pc' := 116) (x := (0 : Int32)) rfl rfl ?_
  refine jw_cV (st := []) (sa := [vR 41 r0, vI (0 : Int32)]) okX8_say4 rfl rfl rfl rfl rfl rfl (jstp_virtual (sa := [vI (0 : Int32)]) (st := []) (k := 0) rfl rfl sX8_say4 okX8_say4 g_1 (one41.k g_1) rfl rfl) w (fun h_8 _ _ w => ?_)
  refine jw_aload_n (pc' := 120) rfl rfl ?_
  refine jw_cV (st := []) (sa := [vR 41 r0]) okX8_close rfl rfl rfl rfl rfl rfl (jstp_virtual (sa := []) (st := []) (k := 0) rfl rfl sX8_close okX8_close g_1 (one41.k g_1) rfl rfl) w (fun h_11 _ _ w => ?_)
  refine jw_aload_n (pc' := 124) rfl rfl ?_
  refine jw_bipush (pc' := 126) (x := (83 : Int32)) rfl rfl ?_
  refine jw_cV (st := []) (sa := [vR 41 r0, vI (83 : Int32)]) okX8_begin rfl rfl rfl rfl rfl rfl (jstp_virtual (sa := [vI (83 : Int32)]) (st := []) (k := 0) rfl rfl sX8_begin okX8_begin g_1 (one41.k g_1) rfl rfl) w (fun h_14 _ _ w => ?_)
  refine jw_aload_n (pc' := 130) rfl rfl ?_
  refine jw_ldcwS (pc' := 133) rfl rfl rfl rfl ?_
  refine jw_cV (st := []) (sa := [vR 41 r0, vR 51 (jcs D 229)]) okX8_words rfl rfl rfl rfl rfl rfl (jstp_virtual (sa := [vR 51 (jcs D 229)]) (st := []) (k := 0) rfl rfl sX8_words okX8_words g_1 (one41.k g_1) rfl rfl) w (fun h_17 _ _ w => ?_)
  refine jw_aload_n (pc' := 137) rfl rfl ?_
  refine jw_ldcwS (pc' := 140) rfl rfl rfl rfl ?_
  refine jw_cV (st := []) (sa := [vR 41 r0, vR 51 (jcs D 230)]) okX8_words rfl rfl rfl rfl rfl rfl (jstp_virtual (sa := [vR 51 (jcs D 230)]) (st := []) (k := 0) rfl rfl sX8_words okX8_words g_1 (one41.k g_1) rfl rfl) w (fun h_20 _ _ w => ?_)
  refine jw_aload_n (pc' := 144) rfl rfl ?_
  refine jw_cV (st := []) (sa := [vR 41 r0]) okX8_close rfl rfl rfl rfl rfl rfl (jstp_virtual (sa := []) (st := []) (k := 0) rfl rfl sX8_close okX8_close g_1 (one41.k g_1) rfl rfl) w (fun h_23 _ _ w => ?_)
  refine jw_aload_n (pc' := 148) rfl rfl ?_
  refine jw_iconst (pc' := 149) (x := (2 : Int32)) rfl rfl ?_
  refine jw_putI' (pc' := 152) (F := 228) rfl rfl rfl (Or.inr rfl) (Or.inl rfl) rfl (rfl) (rfl) rfl g_1 (fun h_26 e_27 => ?_)
  replace w := w h_26 e_27
  refine jw_aload_n (pc' := 153) rfl rfl ?_
  refine jw_cV (st := []) (sa := [vR 41 r0]) okX8_ready rfl rfl rfl rfl rfl rfl (jstp_virtual (sa := []) (st := []) (k := 0) rfl rfl sX8_ready okX8_ready g_1 (one41.k g_1) rfl rfl) w (fun h_28 _ _ w => ?_)
  exact jw_return rfl rfl w
def W_X8_password_93 (D : JD) (d : Nat) (Q : JO → JH → Prop) (K47 : Nat → Nat → Int32 → Int32 → JH → Prop) (r0 : Nat) (r2 : Nat) (x4 : Int32) (s0 : Int32) (h : JH) : Prop :=
  K47 r0 r2 s0 (x4 + (1 : Int32)) h
theorem w_X8_password_93 {D : JD} {d : Nat} {Q : JO → JH → Prop} {K47 : Nat → Nat → Int32 → Int32 → JH → Prop} {r0 : Nat} {r2 : Nat} {x4 : Int32} {s0 : Int32} {h : JH} (hK47 : ∀ (r0 : Nat) (r2 : Nat) (x3 : Int32) (x4 : Int32) (h : JH), K47 r0 r2 x3 x4 h → JW D (d + 1) mX8_password 47 [some (vR 41 r0), none, some (vR 64 r2), some (vI x3), some (vI x4)] [] h Q) (w : W_X8_password_93 D d Q K47 r0 r2 x4 s0 h) : JW D (d + 1) mX8_password 93 [some (vR 41 r0), none, some (vR 64 r2), none, some (vI x4)] [vI s0] h Q := by
  unfold W_X8_password_93 at w
  refine jw_istore_n (pc' := 94) (ls' := [some (vR 41 r0), none, some (vR 64 r2), some (vI s0), some (vI x4)]) rfl (by decide) rfl ?_
  refine jw_iinc (pc' := 97) (y := x4 + (1 : Int32)) (ls' := [some (vR 41 r0), none, some (vR 64 r2), some (vI s0), some (vI (x4 + (1 : Int32)))]) rfl (by decide) rfl rfl rfl ?_
  refine jw_goto (pc' := 47) rfl rfl ?_
  exact hK47 _ _ _ _ _ w
def W_X8_password_47 (D : JD) (d : Nat) (Q : JO → JH → Prop) (K47 : Nat → Nat → Int32 → Int32 → JH → Prop) (r0 : Nat) (r2 : Nat) (x3 : Int32) (x4 : Int32) (h : JH) : Prop :=
  r2 ≠ 0 ∧ (cJ5_length D d r2 h (pI D h (fun v_4 h_2 => (v_4 ≤ x4 → W_X8_password_100 D d Q r0 x3 h_2) ∧ (¬ v_4 ≤ x4 → (x3 = 0 → W_X8_password_100 D d Q r0 x3 h_2) ∧ (¬ x3 = 0 → cJ5_charAt D d r2 x4 h_2 (pI D h_2 (fun v_9 h_7 => r0 ≠ 0 ∧ ((jfr h_7 230 r0) ≠ 0 ∧ (cJ5_length D d (jfr h_7 230 r0) h_7 (pI D h_7 (fun v_14 h_12 => cJ5_charAt D d (jfr h_7 230 r0) ((v_14 - (1 : Int32)) - x4) h_12 (pI D h_12 (fun v_17 h_15 => (¬ v_9 = v_17 → W_X8_password_93 D d Q K47 r0 r2 x4 (0 : Int32) h_15) ∧ (v_9 = v_17 → W_X8_password_93 D d Q K47 r0 r2 x4 (1 : Int32) h_15)) (jth Q))) (jth Q))))) (jth Q))))) (jth Q)))
theorem w_X8_password_47 {D : JD} {d : Nat} {Q : JO → JH → Prop} {K47 : Nat → Nat → Int32 → Int32 → JH → Prop} {r0 : Nat} {r2 : Nat} {x3 : Int32} {x4 : Int32} {h : JH} (hK47 : ∀ (r0 : Nat) (r2 : Nat) (x3 : Int32) (x4 : Int32) (h : JH), K47 r0 r2 x3 x4 h → JW D (d + 1) mX8_password 47 [some (vR 41 r0), none, some (vR 64 r2), some (vI x3), some (vI x4)] [] h Q) (w : W_X8_password_47 D d Q K47 r0 r2 x3 x4 h) : JW D (d + 1) mX8_password 47 [some (vR 41 r0), none, some (vR 64 r2), some (vI x3), some (vI x4)] [] h Q := by
  unfold W_X8_password_47 at w
  refine jw_iload (pc' := 49) rfl rfl ?_
  refine jw_aload_n (pc' := 50) rfl rfl ?_
  obtain ⟨g_1, w⟩ := w
  refine jw_cI (st := [vI x4]) (sa := [vR 64 r2]) okJ5_length rfl rfl rfl rfl rfl rfl (jstp_virtual (sa := []) (st := [vI x4]) (k := 0) rfl rfl sJ5_length okJ5_length g_1 (one64.k g_1) rfl rfl) w (fun v_4 h_2 _ _ w => ?_)
  refine jw_icmp_ge (tgt := 100) (pc' := 56) rfl rfl (fun c_5 => ?_) (fun c_5 => ?_)
  · replace w := w.1 c_5
    refine jw_gen (ls' := [some (vR 41 r0), none, none, some (vI x3), none]) (st' := []) (And.intro (Or.inl rfl) (And.intro (Or.inl rfl) (trivial))) (trivial) ?_
    exact w_X8_password_100 w
  · replace w := w.2 c_5
    refine jw_iload_n (pc' := 57) rfl rfl ?_
    refine jw_if_eq (tgt := 100) (pc' := 60) rfl rfl (fun c_6 => ?_) (fun c_6 => ?_)
    · replace w := w.1 c_6
      refine jw_gen (ls' := [some (vR 41 r0), none, none, some (vI x3), none]) (st' := []) (And.intro (Or.inl rfl) (And.intro (Or.inl rfl) (trivial))) (trivial) ?_
      exact w_X8_password_100 w
    · replace w := w.2 c_6
      refine jw_aload_n (pc' := 61) rfl rfl ?_
      refine jw_iload (pc' := 63) rfl rfl ?_
      refine jw_cI (st := []) (sa := [vR 64 r2, vI x4]) okJ5_charAt rfl rfl rfl rfl rfl rfl (jstp_virtual (sa := [vI x4]) (st := []) (k := 0) rfl rfl sJ5_charAt okJ5_charAt g_1 (one64.k g_1) rfl rfl) w (fun v_9 h_7 _ _ w => ?_)
      refine jw_aload_n (pc' := 67) rfl rfl ?_
      obtain ⟨g_10, w⟩ := w
      refine jw_getR (pc' := 70) (F := 230) (t' := 64) rfl rfl rfl rfl rfl g_10 ?_
      refine jw_aload_n (pc' := 71) rfl rfl ?_
      refine jw_getR (pc' := 74) (F := 230) (t' := 64) rfl rfl rfl rfl rfl g_10 ?_
      obtain ⟨g_11, w⟩ := w
      refine jw_cI (st := [vR 64 (jfr h_7 230 r0), vI v_9]) (sa := [vR 64 (jfr h_7 230 r0)]) okJ5_length rfl rfl rfl rfl rfl rfl (jstp_virtual (sa := []) (st := [vR 64 (jfr h_7 230 r0), vI v_9]) (k := 0) rfl rfl sJ5_length okJ5_length g_11 (one64.k g_11) rfl rfl) w (fun v_14 h_12 _ _ w => ?_)
      refine jw_iconst (pc' := 78) (x := (1 : Int32)) rfl rfl ?_
      refine jw_isub (pc' := 79) rfl ?_
      refine jw_iload (pc' := 81) rfl rfl ?_
      refine jw_isub (pc' := 82) rfl ?_
      refine jw_cI (st := [vI v_9]) (sa := [vR 64 (jfr h_7 230 r0), vI ((v_14 - (1 : Int32)) - x4)]) okJ5_charAt rfl rfl rfl rfl rfl rfl (jstp_virtual (sa := [vI ((v_14 - (1 : Int32)) - x4)]) (st := [vI v_9]) (k := 0) rfl rfl sJ5_charAt okJ5_charAt g_11 (one64.k g_11) rfl rfl) w (fun v_17 h_15 _ _ w => ?_)
      refine jw_icmp_ne (tgt := 92) (pc' := 88) rfl rfl (fun c_18 => ?_) (fun c_18 => ?_)
      · replace w := w.1 c_18
        refine jw_iconst (pc' := 93) (x := (0 : Int32)) rfl rfl ?_
        refine jw_gen (ls' := [some (vR 41 r0), none, some (vR 64 r2), none, some (vI x4)]) (st' := [vI (0 : Int32)]) (And.intro (Or.inl rfl) (And.intro (Or.inl rfl) (And.intro (Or.inl rfl) (trivial)))) (And.intro (Or.inl rfl) (trivial)) ?_
        exact w_X8_password_93 hK47 w
      · replace w := w.2 c_18
        refine jw_iconst (pc' := 89) (x := (1 : Int32)) rfl rfl ?_
        refine jw_goto (pc' := 93) rfl rfl ?_
        refine jw_gen (ls' := [some (vR 41 r0), none, some (vR 64 r2), none, some (vI x4)]) (st' := [vI (1 : Int32)]) (And.intro (Or.inl rfl) (And.intro (Or.inl rfl) (And.intro (Or.inl rfl) (trivial)))) (And.intro (Or.inl rfl) (trivial)) ?_
        exact w_X8_password_93 hK47 w
def L_X8_password_47 (D : JD) (d : Nat) (Q : JO → JH → Prop) : Nat → Nat → Nat → Int32 → Int32 → JH → Prop
  | 0 => fun _ _ _ _ _ => False
  | n + 1 => fun r0 r2 x3 x4 h => W_X8_password_47 D d Q (L_X8_password_47 D d Q n) r0 r2 x3 x4 h
theorem l_X8_password_47 {D : JD} {d : Nat} {Q : JO → JH → Prop} : ∀ (n : Nat) (r0 : Nat) (r2 : Nat) (x3 : Int32) (x4 : Int32) (h : JH), L_X8_password_47 D d Q n r0 r2 x3 x4 h → JW D (d + 1) mX8_password 47 [some (vR 41 r0), none, some (vR 64 r2), some (vI x3), some (vI x4)] [] h Q := by
  intro n
  induction n with
  | zero => intro _ _ _ _ _ w; exact w.elim
  | succ n ih => intro _ _ _ _ h w; exact w_X8_password_47 ih w
def W_X8_password_43 (D : JD) (d : Nat) (Q : JO → JH → Prop) (r0 : Nat) (r2 : Nat) (s0 : Int32) (h : JH) : Prop :=
  ∃ n, L_X8_password_47 D d Q n r0 r2 s0 (0 : Int32) h
theorem w_X8_password_43 {D : JD} {d : Nat} {Q : JO → JH → Prop} {r0 : Nat} {r2 : Nat} {s0 : Int32} {h : JH} (w : W_X8_password_43 D d Q r0 r2 s0 h) : JW D (d + 1) mX8_password 43 [some (vR 41 r0), none, some (vR 64 r2), none, none] [vI s0] h Q := by
  unfold W_X8_password_43 at w
  refine jw_istore_n (pc' := 44) (ls' := [some (vR 41 r0), none, some (vR 64 r2), some (vI s0), none]) rfl (by decide) rfl ?_
  refine jw_iconst (pc' := 45) (x := (0 : Int32)) rfl rfl ?_
  refine jw_istore (pc' := 47) (ls' := [some (vR 41 r0), none, some (vR 64 r2), some (vI s0), some (vI (0 : Int32))]) rfl (by decide) rfl ?_
  obtain ⟨n, w⟩ := w
  exact l_X8_password_47 n _ _ _ _ _ w
def W_X8_password_12 (D : JD) (d : Nat) (Q : JO → JH → Prop) (r0 : Nat) (q0 : Nat) (s1 : Int32) (h : JH) : Prop :=
  q0 ≠ 0 ∧ (cX8_whole D d q0 s1 h (pV D h (fun h_2 => r0 ≠ 0 ∧ (cX8_stringOf D d r0 h_2 (pR D h_2 64 (fun v_8 h_6 => cX8_ended D d r0 h_6 (pV D h_6 (fun h_9 => v_8 ≠ 0 ∧ (cJ5_length D d v_8 h_9 (pI D h_9 (fun v_15 h_13 => (jfr h_13 230 r0) ≠ 0 ∧ (cJ5_length D d (jfr h_13 230 r0) h_13 (pI D h_13 (fun v_19 h_17 => (¬ v_15 = v_19 → W_X8_password_43 D d Q r0 v_8 (0 : Int32) h_17) ∧ (v_15 = v_19 → W_X8_password_43 D d Q r0 v_8 (1 : Int32) h_17)) (jth Q)))) (jth Q)))) (jth Q))) (jth Q)))) (jth Q)))
theorem w_X8_password_12 {D : JD} {d : Nat} {Q : JO → JH → Prop} {r0 : Nat} {q0 : Nat} {s1 : Int32} {h : JH} (w : W_X8_password_12 D d Q r0 q0 s1 h) : JW D (d + 1) mX8_password 12 [some (vR 41 r0), none, none, none, none] [vI s1, vR 41 q0] h Q := by
  unfold W_X8_password_12 at w
  obtain ⟨g_1, w⟩ := w
  refine jw_cV (st := []) (sa := [vR 41 q0, vI s1]) okX8_whole rfl rfl rfl rfl rfl rfl (jstp_virtual (sa := [vI s1]) (st := []) (k := 0) rfl rfl sX8_whole okX8_whole g_1 (one41.k g_1) rfl rfl) w (fun h_2 _ _ w => ?_)
  refine jw_aload_n (pc' := 16) rfl rfl ?_
  obtain ⟨g_5, w⟩ := w
  refine jw_cR (st := []) (sa := [vR 41 r0]) okX8_stringOf rfl rfl rfl rfl rfl rfl (jstp_virtual (sa := []) (st := []) (k := 0) rfl rfl sX8_stringOf okX8_stringOf g_5 (one41.k g_5) rfl rfl) w (fun v_8 h_6 _ _ _ w => ?_)
  refine jw_astore_n (pc' := 20) (ls' := [some (vR 41 r0), none, some (vR 64 v_8), none, none]) rfl (by decide) rfl ?_
  refine jw_aload_n (pc' := 21) rfl rfl ?_
  refine jw_cV (st := []) (sa := [vR 41 r0]) okX8_ended rfl rfl rfl rfl rfl rfl (jstp_virtual (sa := []) (st := []) (k := 0) rfl rfl sX8_ended okX8_ended g_5 (one41.k g_5) rfl rfl) w (fun h_9 _ _ w => ?_)
  refine jw_aload_n (pc' := 25) rfl rfl ?_
  obtain ⟨g_12, w⟩ := w
  refine jw_cI (st := []) (sa := [vR 64 v_8]) okJ5_length rfl rfl rfl rfl rfl rfl (jstp_virtual (sa := []) (st := []) (k := 0) rfl rfl sJ5_length okJ5_length g_12 (one64.k g_12) rfl rfl) w (fun v_15 h_13 _ _ w => ?_)
  refine jw_aload_n (pc' := 29) rfl rfl ?_
  refine jw_getR (pc' := 32) (F := 230) (t' := 64) rfl rfl rfl rfl rfl g_5 ?_
  obtain ⟨g_16, w⟩ := w
  refine jw_cI (st := [vI v_15]) (sa := [vR 64 (jfr h_13 230 r0)]) okJ5_length rfl rfl rfl rfl rfl rfl (jstp_virtual (sa := []) (st := [vI v_15]) (k := 0) rfl rfl sJ5_length okJ5_length g_16 (one64.k g_16) rfl rfl) w (fun v_19 h_17 _ _ w => ?_)
  refine jw_icmp_ne (tgt := 42) (pc' := 38) rfl rfl (fun c_20 => ?_) (fun c_20 => ?_)
  · replace w := w.1 c_20
    refine jw_iconst (pc' := 43) (x := (0 : Int32)) rfl rfl ?_
    exact w_X8_password_43 w
  · replace w := w.2 c_20
    refine jw_iconst (pc' := 39) (x := (1 : Int32)) rfl rfl ?_
    refine jw_goto (pc' := 43) rfl rfl ?_
    exact w_X8_password_43 w
def W_X8_password_0 (D : JD) (d : Nat) (Q : JO → JH → Prop) (r0 : Nat) (x1 : Int32) (h : JH) : Prop :=
  (¬ x1 = (112 : Int32) → W_X8_password_12 D d Q r0 r0 (0 : Int32) h) ∧ (x1 = (112 : Int32) → W_X8_password_12 D d Q r0 r0 (1 : Int32) h)
theorem w_X8_password_0 {D : JD} {d : Nat} {Q : JO → JH → Prop} {r0 : Nat} {x1 : Int32} {h : JH} (w : W_X8_password_0 D d Q r0 x1 h) : JW D (d + 1) mX8_password 0 [some (vR 41 r0), some (vI x1), none, none, none] [] h Q := by
  unfold W_X8_password_0 at w
  refine jw_aload_n (pc' := 1) rfl rfl ?_
  refine jw_iload_n (pc' := 2) rfl rfl ?_
  refine jw_bipush (pc' := 4) (x := (112 : Int32)) rfl rfl ?_
  refine jw_icmp_ne (tgt := 11) (pc' := 7) rfl rfl (fun c_1 => ?_) (fun c_1 => ?_)
  · replace w := w.1 c_1
    refine jw_iconst (pc' := 12) (x := (0 : Int32)) rfl rfl ?_
    refine jw_gen (ls' := [some (vR 41 r0), none, none, none, none]) (st' := [vI (0 : Int32), vR 41 r0]) (And.intro (Or.inl rfl) (trivial)) (And.intro (Or.inl rfl) (And.intro (Or.inl rfl) (trivial))) ?_
    exact w_X8_password_12 w
  · replace w := w.2 c_1
    refine jw_iconst (pc' := 8) (x := (1 : Int32)) rfl rfl ?_
    refine jw_goto (pc' := 12) rfl rfl ?_
    refine jw_gen (ls' := [some (vR 41 r0), none, none, none, none]) (st' := [vI (1 : Int32), vR 41 r0]) (And.intro (Or.inl rfl) (trivial)) (And.intro (Or.inl rfl) (And.intro (Or.inl rfl) (trivial))) ?_
    exact w_X8_password_12 w
def T_X8_password (D : JD) (d : Nat) (Q : JO → JH → Prop) (r0 : Nat) (x1 : Int32) (h : JH) : Prop := W_X8_password_0 D d Q r0 x1 h
theorem t_X8_password {D : JD} {d : Nat} {Q : JO → JH → Prop} {r0 : Nat} {x1 : Int32} {h : JH} (w : T_X8_password D d Q r0 x1 h) : cX8_password D (d + 1) r0 x1 h Q := by
  unfold T_X8_password at w
  unfold cX8_password
  exact w_X8_password_0 w
def W_X8_ended_17 (D : JD) (d : Nat) (Q : JO → JH → Prop) (q0 : Nat) (s1 : Int32) (h : JH) : Prop :=
  q0 ≠ 0 ∧ (cX8_whole D d q0 s1 h (pV D h (fun h_2 => Q (.inl none) h_2) (jth Q)))
theorem w_X8_ended_17 {D : JD} {d : Nat} {Q : JO → JH → Prop} {q0 : Nat} {s1 : Int32} {h : JH} (w : W_X8_ended_17 D d Q q0 s1 h) : JW D (d + 1) mX8_ended 17 [none] [vI s1, vR 41 q0] h Q := by
  unfold W_X8_ended_17 at w
  obtain ⟨g_1, w⟩ := w
  refine jw_cV (st := []) (sa := [vR 41 q0, vI s1]) okX8_whole rfl rfl rfl rfl rfl rfl (jstp_virtual (sa := [vI s1]) (st := []) (k := 0) rfl rfl sX8_whole okX8_whole g_1 (one41.k g_1) rfl rfl) w (fun h_2 _ _ w => ?_)
  exact jw_return rfl rfl w
def W_X8_ended_0 (D : JD) (d : Nat) (Q : JO → JH → Prop) (r0 : Nat) (h : JH) : Prop :=
  r0 ≠ 0 ∧ ((¬ (jfi h 238 r0) = (jfi h 239 r0) → W_X8_ended_17 D d Q r0 (0 : Int32) h) ∧ ((jfi h 238 r0) = (jfi h 239 r0) → W_X8_ended_17 D d Q r0 (1 : Int32) h))
theorem w_X8_ended_0 {D : JD} {d : Nat} {Q : JO → JH → Prop} {r0 : Nat} {h : JH} (w : W_X8_ended_0 D d Q r0 h) : JW D (d + 1) mX8_ended 0 [some (vR 41 r0)] [] h Q := by
  unfold W_X8_ended_0 at w
  refine jw_aload_n (pc' := 1) rfl rfl ?_
  refine jw_aload_n (pc' := 2) rfl rfl ?_
  obtain ⟨g_1, w⟩ := w
  refine jw_getI (pc' := 5) (F := 238) rfl rfl rfl rfl g_1 ?_
  refine jw_aload_n (pc' := 6) rfl rfl ?_
  refine jw_getI (pc' := 9) (F := 239) rfl rfl rfl rfl g_1 ?_
  refine jw_icmp_ne (tgt := 16) (pc' := 12) rfl rfl (fun c_2 => ?_) (fun c_2 => ?_)
  · replace w := w.1 c_2
    refine jw_iconst (pc' := 17) (x := (0 : Int32)) rfl rfl ?_
    refine jw_gen (ls' := [none]) (st' := [vI (0 : Int32), vR 41 r0]) (trivial) (And.intro (Or.inl rfl) (And.intro (Or.inl rfl) (trivial))) ?_
    exact w_X8_ended_17 w
  · replace w := w.2 c_2
    refine jw_iconst (pc' := 13) (x := (1 : Int32)) rfl rfl ?_
    refine jw_goto (pc' := 17) rfl rfl ?_
    refine jw_gen (ls' := [none]) (st' := [vI (1 : Int32), vR 41 r0]) (trivial) (And.intro (Or.inl rfl) (And.intro (Or.inl rfl) (trivial))) ?_
    exact w_X8_ended_17 w
def T_X8_ended (D : JD) (d : Nat) (Q : JO → JH → Prop) (r0 : Nat) (h : JH) : Prop := W_X8_ended_0 D d Q r0 h
theorem t_X8_ended {D : JD} {d : Nat} {Q : JO → JH → Prop} {r0 : Nat} {h : JH} (w : T_X8_ended D d Q r0 h) : cX8_ended D (d + 1) r0 h Q := by
  unfold T_X8_ended at w
  unfold cX8_ended
  exact w_X8_ended_0 w
def W_X8_words_0 (D : JD) (d : Nat) (Q : JO → JH → Prop) (r0 : Nat) (r1 : Nat) (h : JH) : Prop :=
  r0 ≠ 0 ∧ (cX8_text D d r0 r1 h (pV D h (fun h_2 => cX8_say D d r0 (0 : Int32) h_2 (pV D h_2 (fun h_5 => Q (.inl none) h_5) (jth Q))) (jth Q)))
theorem w_X8_words_0 {D : JD} {d : Nat} {Q : JO → JH → Prop} {r0 : Nat} {r1 : Nat} {h : JH} (w : W_X8_words_0 D d Q r0 r1 h) : JW D (d + 1) mX8_words 0 [some (vR 41 r0), some (vR 64 r1)] [] h Q := by
  unfold W_X8_words_0 at w
  refine jw_aload_n (pc' := 1) rfl rfl ?_
  refine jw_aload_n (pc' := 2) rfl rfl ?_
  obtain ⟨g_1, w⟩ := w
  refine jw_cV (st := []) (sa := [vR 41 r0, vR 64 r1]) okX8_text rfl rfl rfl rfl rfl rfl (jstp_virtual (sa := [vR 64 r1]) (st := []) (k := 0) rfl rfl sX8_text okX8_text g_1 (one41.k g_1) rfl rfl) w (fun h_2 _ _ w => ?_)
  refine jw_aload_n (pc' := 6) rfl rfl ?_
  refine jw_iconst (pc' := 7) (x := (0 : Int32)) rfl rfl ?_
  refine jw_cV (st := []) (sa := [vR 41 r0, vI (0 : Int32)]) okX8_say rfl rfl rfl rfl rfl rfl (jstp_virtual (sa := [vI (0 : Int32)]) (st := []) (k := 0) rfl rfl sX8_say okX8_say g_1 (one41.k g_1) rfl rfl) w (fun h_5 _ _ w => ?_)
  exact jw_return rfl rfl w
def T_X8_words (D : JD) (d : Nat) (Q : JO → JH → Prop) (r0 : Nat) (r1 : Nat) (h : JH) : Prop := W_X8_words_0 D d Q r0 r1 h
theorem t_X8_words {D : JD} {d : Nat} {Q : JO → JH → Prop} {r0 : Nat} {r1 : Nat} {h : JH} (w : T_X8_words D d Q r0 r1 h) : cX8_words D (d + 1) r0 r1 h Q := by
  unfold T_X8_words at w
  unfold cX8_words
  exact w_X8_words_0 w
def W_X8_text_2 (D : JD) (d : Nat) (Q : JO → JH → Prop) (K2 : Nat → Nat → Int32 → JH → Prop) (r0 : Nat) (r1 : Nat) (x2 : Int32) (h : JH) : Prop :=
  r1 ≠ 0 ∧ (cJ5_length D d r1 h (pI D h (fun v_4 h_2 => (v_4 ≤ x2 → Q (.inl none) h_2) ∧ (¬ v_4 ≤ x2 → cJ5_charAt D d r1 x2 h_2 (pI D h_2 (fun v_8 h_6 => r0 ≠ 0 ∧ (cX8_say D d r0 v_8 h_6 (pV D h_6 (fun h_10 => K2 r0 r1 (x2 + (1 : Int32)) h_10) (jth Q)))) (jth Q)))) (jth Q)))
theorem w_X8_text_2 {D : JD} {d : Nat} {Q : JO → JH → Prop} {K2 : Nat → Nat → Int32 → JH → Prop} {r0 : Nat} {r1 : Nat} {x2 : Int32} {h : JH} (hK2 : ∀ (r0 : Nat) (r1 : Nat) (x2 : Int32) (h : JH), K2 r0 r1 x2 h → JW D (d + 1) mX8_text 2 [some (vR 41 r0), some (vR 64 r1), some (vI x2)] [] h Q) (w : W_X8_text_2 D d Q K2 r0 r1 x2 h) : JW D (d + 1) mX8_text 2 [some (vR 41 r0), some (vR 64 r1), some (vI x2)] [] h Q := by
  unfold W_X8_text_2 at w
  refine jw_iload_n (pc' := 3) rfl rfl ?_
  refine jw_aload_n (pc' := 4) rfl rfl ?_
  obtain ⟨g_1, w⟩ := w
  refine jw_cI (st := [vI x2]) (sa := [vR 64 r1]) okJ5_length rfl rfl rfl rfl rfl rfl (jstp_virtual (sa := []) (st := [vI x2]) (k := 0) rfl rfl sJ5_length okJ5_length g_1 (one64.k g_1) rfl rfl) w (fun v_4 h_2 _ _ w => ?_)
  refine jw_icmp_ge (tgt := 25) (pc' := 10) rfl rfl (fun c_5 => ?_) (fun c_5 => ?_)
  · replace w := w.1 c_5
    exact jw_return rfl rfl w
  · replace w := w.2 c_5
    refine jw_aload_n (pc' := 11) rfl rfl ?_
    refine jw_aload_n (pc' := 12) rfl rfl ?_
    refine jw_iload_n (pc' := 13) rfl rfl ?_
    refine jw_cI (st := [vR 41 r0]) (sa := [vR 64 r1, vI x2]) okJ5_charAt rfl rfl rfl rfl rfl rfl (jstp_virtual (sa := [vI x2]) (st := [vR 41 r0]) (k := 0) rfl rfl sJ5_charAt okJ5_charAt g_1 (one64.k g_1) rfl rfl) w (fun v_8 h_6 _ _ w => ?_)
    obtain ⟨g_9, w⟩ := w
    refine jw_cV (st := []) (sa := [vR 41 r0, vI v_8]) okX8_say rfl rfl rfl rfl rfl rfl (jstp_virtual (sa := [vI v_8]) (st := []) (k := 0) rfl rfl sX8_say okX8_say g_9 (one41.k g_9) rfl rfl) w (fun h_10 _ _ w => ?_)
    refine jw_iinc (pc' := 22) (y := x2 + (1 : Int32)) (ls' := [some (vR 41 r0), some (vR 64 r1), some (vI (x2 + (1 : Int32)))]) rfl (by decide) rfl rfl rfl ?_
    refine jw_goto (pc' := 2) rfl rfl ?_
    exact hK2 _ _ _ _ w
def L_X8_text_2 (D : JD) (d : Nat) (Q : JO → JH → Prop) : Nat → Nat → Nat → Int32 → JH → Prop
  | 0 => fun _ _ _ _ => False
  | n + 1 => fun r0 r1 x2 h => W_X8_text_2 D d Q (L_X8_text_2 D d Q n) r0 r1 x2 h
theorem l_X8_text_2 {D : JD} {d : Nat} {Q : JO → JH → Prop} : ∀ (n : Nat) (r0 : Nat) (r1 : Nat) (x2 : Int32) (h : JH), L_X8_text_2 D d Q n r0 r1 x2 h → JW D (d + 1) mX8_text 2 [some (vR 41 r0), some (vR 64 r1), some (vI x2)] [] h Q := by
  intro n
  induction n with
  | zero => intro _ _ _ _ w; exact w.elim
  | succ n ih => intro _ _ _ h w; exact w_X8_text_2 ih w
def W_X8_text_0 (D : JD) (d : Nat) (Q : JO → JH → Prop) (r0 : Nat) (r1 : Nat) (h : JH) : Prop :=
  ∃ n, L_X8_text_2 D d Q n r0 r1 (0 : Int32) h
theorem w_X8_text_0 {D : JD} {d : Nat} {Q : JO → JH → Prop} {r0 : Nat} {r1 : Nat} {h : JH} (w : W_X8_text_0 D d Q r0 r1 h) : JW D (d + 1) mX8_text 0 [some (vR 41 r0), some (vR 64 r1), none] [] h Q := by
  unfold W_X8_text_0 at w
  refine jw_iconst (pc' := 1) (x := (0 : Int32)) rfl rfl ?_
  refine jw_istore_n (pc' := 2) (ls' := [some (vR 41 r0), some (vR 64 r1), some (vI (0 : Int32))]) rfl (by decide) rfl ?_
  obtain ⟨n, w⟩ := w
  exact l_X8_text_2 n _ _ _ _ w
def T_X8_text (D : JD) (d : Nat) (Q : JO → JH → Prop) (r0 : Nat) (r1 : Nat) (h : JH) : Prop := W_X8_text_0 D d Q r0 r1 h
theorem t_X8_text {D : JD} {d : Nat} {Q : JO → JH → Prop} {r0 : Nat} {r1 : Nat} {h : JH} (w : T_X8_text D d Q r0 r1 h) : cX8_text D (d + 1) r0 r1 h Q := by
  unfold T_X8_text at w
  unfold cX8_text
  exact w_X8_text_0 w
def W_X8_ready_35 (D : JD) (d : Nat) (Q : JO → JH → Prop) (r0 : Nat) (q0 : Nat) (s1 : Int32) (h : JH) : Prop :=
  q0 ≠ 0 ∧ (cX8_say D d q0 s1 h (pV D h (fun h_2 => r0 ≠ 0 ∧ (cX8_close D d r0 h_2 (pV D h_2 (fun h_6 => Q (.inl none) h_6) (jth Q)))) (jth Q)))
theorem w_X8_ready_35 {D : JD} {d : Nat} {Q : JO → JH → Prop} {r0 : Nat} {q0 : Nat} {s1 : Int32} {h : JH} (w : W_X8_ready_35 D d Q r0 q0 s1 h) : JW D (d + 1) mX8_ready 35 [some (vR 41 r0)] [vI s1, vR 41 q0] h Q := by
  unfold W_X8_ready_35 at w
  obtain ⟨g_1, w⟩ := w
  refine jw_cV (st := []) (sa := [vR 41 q0, vI s1]) okX8_say rfl rfl rfl rfl rfl rfl (jstp_virtual (sa := [vI s1]) (st := []) (k := 0) rfl rfl sX8_say okX8_say g_1 (one41.k g_1) rfl rfl) w (fun h_2 _ _ w => ?_)
  refine jw_aload_n (pc' := 39) rfl rfl ?_
  obtain ⟨g_5, w⟩ := w
  refine jw_cV (st := []) (sa := [vR 41 r0]) okX8_close rfl rfl rfl rfl rfl rfl (jstp_virtual (sa := []) (st := []) (k := 0) rfl rfl sX8_close okX8_close g_5 (one41.k g_5) rfl rfl) w (fun h_6 _ _ w => ?_)
  exact jw_return rfl rfl w
def W_X8_ready_0 (D : JD) (d : Nat) (Q : JO → JH → Prop) (r0 : Nat) (h : JH) : Prop :=
  r0 ≠ 0 ∧ (cX8_begin D d r0 (90 : Int32) h (pV D h (fun h_2 => (¬ (jfi h_2 228 r0) = (3 : Int32) → (¬ (jfi h_2 228 r0) = (4 : Int32) → W_X8_ready_35 D d Q r0 r0 (73 : Int32) h_2) ∧ ((jfi h_2 228 r0) = (4 : Int32) → W_X8_ready_35 D d Q r0 r0 (69 : Int32) h_2)) ∧ ((jfi h_2 228 r0) = (3 : Int32) → W_X8_ready_35 D d Q r0 r0 (84 : Int32) h_2)) (jth Q)))
theorem w_X8_ready_0 {D : JD} {d : Nat} {Q : JO → JH → Prop} {r0 : Nat} {h : JH} (w : W_X8_ready_0 D d Q r0 h) : JW D (d + 1) mX8_ready 0 [some (vR 41 r0)] [] h Q := by
  unfold W_X8_ready_0 at w
  refine jw_aload_n (pc' := 1) rfl rfl ?_
  refine jw_bipush (pc' := 3) (x := (90 : Int32)) rfl rfl ?_
  obtain ⟨g_1, w⟩ := w
  refine jw_cV (st := []) (sa := [vR 41 r0, vI (90 : Int32)]) okX8_begin rfl rfl rfl rfl rfl rfl (jstp_virtual (sa := [vI (90 : Int32)]) (st := []) (k := 0) rfl rfl sX8_begin okX8_begin g_1 (one41.k g_1) rfl rfl) w (fun h_2 _ _ w => ?_)
  refine jw_aload_n (pc' := 7) rfl rfl ?_
  refine jw_aload_n (pc' := 8) rfl rfl ?_
  refine jw_getI (pc' := 11) (F := 228) rfl rfl rfl rfl g_1 ?_
  refine jw_iconst (pc' := 12) (x := (3 : Int32)) rfl rfl ?_
  refine jw_icmp_ne (tgt := 20) (pc' := 15) rfl rfl (fun c_5 => ?_) (fun c_5 => ?_)
  · replace w := w.1 c_5
    refine jw_aload_n (pc' := 21) rfl rfl ?_
    refine jw_getI (pc' := 24) (F := 228) rfl rfl rfl rfl g_1 ?_
    refine jw_iconst (pc' := 25) (x := (4 : Int32)) rfl rfl ?_
    refine jw_icmp_ne (tgt := 33) (pc' := 28) rfl rfl (fun c_6 => ?_) (fun c_6 => ?_)
    · replace w := w.1 c_6
      refine jw_bipush (pc' := 35) (x := (73 : Int32)) rfl rfl ?_
      exact w_X8_ready_35 w
    · replace w := w.2 c_6
      refine jw_bipush (pc' := 30) (x := (69 : Int32)) rfl rfl ?_
      refine jw_goto (pc' := 35) rfl rfl ?_
      exact w_X8_ready_35 w
  · replace w := w.2 c_5
    refine jw_bipush (pc' := 17) (x := (84 : Int32)) rfl rfl ?_
    refine jw_goto (pc' := 35) rfl rfl ?_
    exact w_X8_ready_35 w
def T_X8_ready (D : JD) (d : Nat) (Q : JO → JH → Prop) (r0 : Nat) (h : JH) : Prop := W_X8_ready_0 D d Q r0 h
theorem t_X8_ready {D : JD} {d : Nat} {Q : JO → JH → Prop} {r0 : Nat} {h : JH} (w : T_X8_ready D d Q r0 h) : cX8_ready D (d + 1) r0 h Q := by
  unfold T_X8_ready at w
  unfold cX8_ready
  exact w_X8_ready_0 w
def W_X8_message_236 (D : JD) (d : Nat) (Q : JO → JH → Prop) (h : JH) : Prop :=
  Q (.inl none) h
theorem w_X8_message_236 {D : JD} {d : Nat} {Q : JO → JH → Prop} {h : JH} (w : W_X8_message_236 D d Q h) : JW D (d + 1) mX8_message 236 [none, none] [] h Q := by
  unfold W_X8_message_236 at w
  exact jw_return rfl rfl w
def W_X8_message_210 (D : JD) (d : Nat) (Q : JO → JH → Prop) (r0 : Nat) (h : JH) : Prop :=
  r0 ≠ 0 ∧ (cX8_ready D d r0 h (pV D h (fun h_2 => W_X8_message_236 D d Q h_2) (jth Q)))
theorem w_X8_message_210 {D : JD} {d : Nat} {Q : JO → JH → Prop} {r0 : Nat} {h : JH} (w : W_X8_message_210 D d Q r0 h) : JW D (d + 1) mX8_message 210 [some (vR 41 r0), none] [] h Q := by
  unfold W_X8_message_210 at w
  refine jw_aload_n (pc' := 211) rfl rfl ?_
  obtain ⟨g_1, w⟩ := w
  refine jw_cV (st := []) (sa := [vR 41 r0]) okX8_ready rfl rfl rfl rfl rfl rfl (jstp_virtual (sa := []) (st := []) (k := 0) rfl rfl sX8_ready okX8_ready g_1 (one41.k g_1) rfl rfl) w (fun h_2 _ _ w => ?_)
  refine jw_goto (pc' := 236) rfl rfl ?_
  refine jw_gen (ls' := [none, none]) (st' := []) (trivial) (trivial) ?_
  exact w_X8_message_236 w
def W_X8_message_20 (D : JD) (d : Nat) (Q : JO → JH → Prop) (r0 : Nat) (x1 : Int32) (h : JH) : Prop :=
  (x1 = (66 : Int32) → r0 ≠ 0 ∧ (cX8_bind D d r0 h (pV D h (fun h_3 => W_X8_message_236 D d Q h_3) (jth Q)))) ∧ (x1 = (67 : Int32) → r0 ≠ 0 ∧ (cX8_drop D d r0 h (pV D h (fun h_8 => W_X8_message_236 D d Q h_8) (jth Q)))) ∧ (x1 = (68 : Int32) → r0 ≠ 0 ∧ (cX8_describe D d r0 h (pV D h (fun h_13 => W_X8_message_236 D d Q h_13) (jth Q)))) ∧ (x1 = (69 : Int32) → r0 ≠ 0 ∧ (cX8_execute D d r0 h (pV D h (fun h_18 => W_X8_message_236 D d Q h_18) (jth Q)))) ∧ (x1 = (72 : Int32) → r0 ≠ 0 ∧ (cX8_ended D d r0 h (pV D h (fun h_23 => W_X8_message_236 D d Q h_23) (jth Q)))) ∧ (x1 = (80 : Int32) → r0 ≠ 0 ∧ (cX8_prepare D d r0 h (pV D h (fun h_28 => W_X8_message_236 D d Q h_28) (jth Q)))) ∧ (x1 = (81 : Int32) → r0 ≠ 0 ∧ (cX8_query D d r0 h (pV D h (fun h_33 => W_X8_message_236 D d Q h_33) (jth Q)))) ∧ (x1 = (83 : Int32) → r0 ≠ 0 ∧ (cX8_ended D d r0 h (pV D h (fun h_38 => ∀ h_41 : JH, h_41 = wfi h_38 229 r0 (0 : Int32) → ((¬ (jfi h_41 228 r0) = (2 : Int32) → W_X8_message_210 D d Q r0 h_41) ∧ ((jfi h_41 228 r0) = (2 : Int32) → (jfr h_41 179 r0) ≠ 0 ∧ (cX10_take D d (jfr h_41 179 r0) (jfr h_41 178 r0) h_41 (pV D h_41 (fun h_45 => ∀ h_48 : JH, h_48 = wfi h_45 234 r0 (0 : Int32) → (W_X8_message_210 D d Q r0 h_48)) (jth Q)))))) (jth Q)))) ∧ (x1 = (88 : Int32) → r0 ≠ 0 ∧ (cX8_ended D d r0 h (pV D h (fun h_52 => cX8_shut D d r0 h_52 (pV D h_52 (fun h_55 => W_X8_message_236 D d Q h_55) (jth Q))) (jth Q)))) ∧ (¬ x1 = (66 : Int32) → ¬ x1 = (67 : Int32) → ¬ x1 = (68 : Int32) → ¬ x1 = (69 : Int32) → ¬ x1 = (72 : Int32) → ¬ x1 = (80 : Int32) → ¬ x1 = (81 : Int32) → ¬ x1 = (83 : Int32) → ¬ x1 = (88 : Int32) → r0 ≠ 0 ∧ (cX8_fail D d r0 (jcs D 226) h (pR D h 42 (fun v_61 h_59 => v_61 ≠ 0 ∧ (Q (.inr v_61) h_59)) (jth Q))))
theorem w_X8_message_20 {D : JD} {d : Nat} {Q : JO → JH → Prop} {r0 : Nat} {x1 : Int32} {h : JH} (w : W_X8_message_20 D d Q r0 x1 h) : JW D (d + 1) mX8_message 20 [some (vR 41 r0), some (vI x1)] [] h Q := by
  unfold W_X8_message_20 at w
  refine jw_iload_n (pc' := 21) rfl rfl ?_
  refine jw_tsw (cs := [((66 : Int32), 142), ((67 : Int32), 163), ((68 : Int32), 149), ((69 : Int32), 156), ((72 : Int32), 170), ((80 : Int32), 135), ((81 : Int32), 128), ((83 : Int32), 177), ((88 : Int32), 217)]) (dt := 228) rfl (by decide +kernel) ?_
  by_cases c_1 : x1 = (66 : Int32)
  · rw [jsw_hit c_1]
    replace w := w.1 c_1
    refine jw_aload_n (pc' := 143) rfl rfl ?_
    obtain ⟨g_2, w⟩ := w
    refine jw_cV (st := []) (sa := [vR 41 r0]) okX8_bind rfl rfl rfl rfl rfl rfl (jstp_virtual (sa := []) (st := []) (k := 0) rfl rfl sX8_bind okX8_bind g_2 (one41.k g_2) rfl rfl) w (fun h_3 _ _ w => ?_)
    refine jw_goto (pc' := 236) rfl rfl ?_
    refine jw_gen (ls' := [none, none]) (st' := []) (trivial) (trivial) ?_
    exact w_X8_message_236 w
  · rw [jsw_miss c_1]
    replace w := w.2
    by_cases c_6 : x1 = (67 : Int32)
    · rw [jsw_hit c_6]
      replace w := w.1 c_6
      refine jw_aload_n (pc' := 164) rfl rfl ?_
      obtain ⟨g_7, w⟩ := w
      refine jw_cV (st := []) (sa := [vR 41 r0]) okX8_drop rfl rfl rfl rfl rfl rfl (jstp_virtual (sa := []) (st := []) (k := 0) rfl rfl sX8_drop okX8_drop g_7 (one41.k g_7) rfl rfl) w (fun h_8 _ _ w => ?_)
      refine jw_goto (pc' := 236) rfl rfl ?_
      refine jw_gen (ls' := [none, none]) (st' := []) (trivial) (trivial) ?_
      exact w_X8_message_236 w
    · rw [jsw_miss c_6]
      replace w := w.2
      by_cases c_11 : x1 = (68 : Int32)
      · rw [jsw_hit c_11]
        replace w := w.1 c_11
        refine jw_aload_n (pc' := 150) rfl rfl ?_
        obtain ⟨g_12, w⟩ := w
        refine jw_cV (st := []) (sa := [vR 41 r0]) okX8_describe rfl rfl rfl rfl rfl rfl (jstp_virtual (sa := []) (st := []) (k := 0) rfl rfl sX8_describe okX8_describe g_12 (one41.k g_12) rfl rfl) w (fun h_13 _ _ w => ?_)
        refine jw_goto (pc' := 236) rfl rfl ?_
        refine jw_gen (ls' := [none, none]) (st' := []) (trivial) (trivial) ?_
        exact w_X8_message_236 w
      · rw [jsw_miss c_11]
        replace w := w.2
        by_cases c_16 : x1 = (69 : Int32)
        · rw [jsw_hit c_16]
          replace w := w.1 c_16
          refine jw_aload_n (pc' := 157) rfl rfl ?_
          obtain ⟨g_17, w⟩ := w
          refine jw_cV (st := []) (sa := [vR 41 r0]) okX8_execute rfl rfl rfl rfl rfl rfl (jstp_virtual (sa := []) (st := []) (k := 0) rfl rfl sX8_execute okX8_execute g_17 (one41.k g_17) rfl rfl) w (fun h_18 _ _ w => ?_)
          refine jw_goto (pc' := 236) rfl rfl ?_
          refine jw_gen (ls' := [none, none]) (st' := []) (trivial) (trivial) ?_
          exact w_X8_message_236 w
        · rw [jsw_miss c_16]
          replace w := w.2
          by_cases c_21 : x1 = (72 : Int32)
          · rw [jsw_hit c_21]
            replace w := w.1 c_21
            refine jw_aload_n (pc' := 171) rfl rfl ?_
            obtain ⟨g_22, w⟩ := w
            refine jw_cV (st := []) (sa := [vR 41 r0]) okX8_ended rfl rfl rfl rfl rfl rfl (jstp_virtual (sa := []) (st := []) (k := 0) rfl rfl sX8_ended okX8_ended g_22 (one41.k g_22) rfl rfl) w (fun h_23 _ _ w => ?_)
            refine jw_goto (pc' := 236) rfl rfl ?_
            refine jw_gen (ls' := [none, none]) (st' := []) (trivial) (trivial) ?_
            exact w_X8_message_236 w
          · rw [jsw_miss c_21]
            replace w := w.2
            by_cases c_26 : x1 = (80 : Int32)
            · rw [jsw_hit c_26]
              replace w := w.1 c_26
              refine jw_aload_n (pc' := 136) rfl rfl ?_
              obtain ⟨g_27, w⟩ := w
              refine jw_cV (st := []) (sa := [vR 41 r0]) okX8_prepare rfl rfl rfl rfl rfl rfl (jstp_virtual (sa := []) (st := []) (k := 0) rfl rfl sX8_prepare okX8_prepare g_27 (one41.k g_27) rfl rfl) w (fun h_28 _ _ w => ?_)
              refine jw_goto (pc' := 236) rfl rfl ?_
              refine jw_gen (ls' := [none, none]) (st' := []) (trivial) (trivial) ?_
              exact w_X8_message_236 w
            · rw [jsw_miss c_26]
              replace w := w.2
              by_cases c_31 : x1 = (81 : Int32)
              · rw [jsw_hit c_31]
                replace w := w.1 c_31
                refine jw_aload_n (pc' := 129) rfl rfl ?_
                obtain ⟨g_32, w⟩ := w
                refine jw_cV (st := []) (sa := [vR 41 r0]) okX8_query rfl rfl rfl rfl rfl rfl (jstp_virtual (sa := []) (st := []) (k := 0) rfl rfl sX8_query okX8_query g_32 (one41.k g_32) rfl rfl) w (fun h_33 _ _ w => ?_)
                refine jw_goto (pc' := 236) rfl rfl ?_
                refine jw_gen (ls' := [none, none]) (st' := []) (trivial) (trivial) ?_
                exact w_X8_message_236 w
              · rw [jsw_miss c_31]
                replace w := w.2
                by_cases c_36 : x1 = (83 : Int32)
                · rw [jsw_hit c_36]
                  replace w := w.1 c_36
                  refine jw_aload_n (pc' := 178) rfl rfl ?_
                  obtain ⟨g_37, w⟩ := w
                  refine jw_cV (st := []) (sa := [vR 41 r0]) okX8_ended rfl rfl rfl rfl rfl rfl (jstp_virtual (sa := []) (st := []) (k := 0) rfl rfl sX8_ended okX8_ended g_37 (one41.k g_37) rfl rfl) w (fun h_38 _ _ w => ?_)
                  refine jw_aload_n (pc' := 182) rfl rfl ?_
                  refine jw_iconst (pc' := 183) (x := (0 : Int32)) rfl rfl ?_
                  refine jw_putI' (pc' := 186) (F := 229) rfl rfl rfl (Or.inr rfl) (Or.inl rfl) rfl (rfl) (rfl) rfl g_37 (fun h_41 e_42 => ?_)
                  replace w := w h_41 e_42
                  refine jw_aload_n (pc' := 187) rfl rfl ?_
                  refine jw_getI (pc' := 190) (F := 228) rfl rfl rfl rfl g_37 ?_
                  refine jw_iconst (pc' := 191) (x := (2 : Int32)) rfl rfl ?_
                  refine jw_icmp_ne (tgt := 210) (pc' := 194) rfl rfl (fun c_43 => ?_) (fun c_43 => ?_)
                  · replace w := w.1 c_43
                    refine jw_gen (ls' := [some (vR 41 r0), none]) (st' := []) (And.intro (Or.inl rfl) (trivial)) (trivial) ?_
                    exact w_X8_message_210 w
                  · replace w := w.2 c_43
                    refine jw_aload_n (pc' := 195) rfl rfl ?_
                    refine jw_getR (pc' := 198) (F := 179) (t' := 117) rfl rfl rfl rfl rfl g_37 ?_
                    refine jw_aload_n (pc' := 199) rfl rfl ?_
                    refine jw_getR (pc' := 202) (F := 178) (t' := 116) rfl rfl rfl rfl rfl g_37 ?_
                    obtain ⟨g_44, w⟩ := w
                    refine jw_cV (st := []) (sa := [vR 117 (jfr h_41 179 r0), vR 116 (jfr h_41 178 r0)]) okX10_take rfl rfl rfl rfl rfl rfl (jstp_virtual (sa := [vR 116 (jfr h_41 178 r0)]) (st := []) (k := 0) rfl rfl sX10_take okX10_take g_44 (one117.k g_44) rfl rfl) w (fun h_45 _ _ w => ?_)
                    refine jw_aload_n (pc' := 206) rfl rfl ?_
                    refine jw_iconst (pc' := 207) (x := (0 : Int32)) rfl rfl ?_
                    refine jw_putI' (pc' := 210) (F := 234) rfl rfl rfl (Or.inr rfl) (Or.inl rfl) rfl (rfl) (rfl) rfl g_37 (fun h_48 e_49 => ?_)
                    replace w := w h_48 e_49
                    refine jw_gen (ls' := [some (vR 41 r0), none]) (st' := []) (And.intro (Or.inl rfl) (trivial)) (trivial) ?_
                    exact w_X8_message_210 w
                · rw [jsw_miss c_36]
                  replace w := w.2
                  by_cases c_50 : x1 = (88 : Int32)
                  · rw [jsw_hit c_50]
                    replace w := w.1 c_50
                    refine jw_aload_n (pc' := 218) rfl rfl ?_
                    obtain ⟨g_51, w⟩ := w
                    refine jw_cV (st := []) (sa := [vR 41 r0]) okX8_ended rfl rfl rfl rfl rfl rfl (jstp_virtual (sa := []) (st := []) (k := 0) rfl rfl sX8_ended okX8_ended g_51 (one41.k g_51) rfl rfl) w (fun h_52 _ _ w => ?_)
                    refine jw_aload_n (pc' := 222) rfl rfl ?_
                    refine jw_cV (st := []) (sa := [vR 41 r0]) okX8_shut rfl rfl rfl rfl rfl rfl (jstp_virtual (sa := []) (st := []) (k := 0) rfl rfl sX8_shut okX8_shut g_51 (one41.k g_51) rfl rfl) w (fun h_55 _ _ w => ?_)
                    refine jw_goto (pc' := 236) rfl rfl ?_
                    refine jw_gen (ls' := [none, none]) (st' := []) (trivial) (trivial) ?_
                    exact w_X8_message_236 w
                  · rw [jsw_miss c_50]
                    replace w := w.2
                    rw [jsw_nil]
                    replace w := w c_1 c_6 c_11 c_16 c_21 c_26 c_31 c_36 c_50
                    refine jw_aload_n (pc' := 229) rfl rfl ?_
                    refine jw_ldcwS (pc' := 232) rfl rfl rfl rfl ?_
                    obtain ⟨g_58, w⟩ := w
                    refine jw_cR (st := []) (sa := [vR 41 r0, vR 51 (jcs D 226)]) okX8_fail rfl rfl rfl rfl rfl rfl (jstp_virtual (sa := [vR 51 (jcs D 226)]) (st := []) (k := 0) rfl rfl sX8_fail okX8_fail g_58 (one41.k g_58) rfl rfl) w (fun v_61 h_59 _ _ _ w => ?_)
                    obtain ⟨g_62, w⟩ := w
                    exact jw_athrow rfl rfl g_62 w
def W_X8_message_0 (D : JD) (d : Nat) (Q : JO → JH → Prop) (r0 : Nat) (x1 : Int32) (h : JH) : Prop :=
  r0 ≠ 0 ∧ (((jfi h 229 r0) = 0 → W_X8_message_20 D d Q r0 x1 h) ∧ (¬ (jfi h 229 r0) = 0 → (x1 = (83 : Int32) → W_X8_message_20 D d Q r0 x1 h) ∧ (¬ x1 = (83 : Int32) → (x1 = (88 : Int32) → W_X8_message_20 D d Q r0 x1 h) ∧ (¬ x1 = (88 : Int32) → Q (.inl none) h))))
theorem w_X8_message_0 {D : JD} {d : Nat} {Q : JO → JH → Prop} {r0 : Nat} {x1 : Int32} {h : JH} (w : W_X8_message_0 D d Q r0 x1 h) : JW D (d + 1) mX8_message 0 [some (vR 41 r0), some (vI x1)] [] h Q := by
  unfold W_X8_message_0 at w
  refine jw_aload_n (pc' := 1) rfl rfl ?_
  obtain ⟨g_1, w⟩ := w
  refine jw_getI (pc' := 4) (F := 229) rfl rfl rfl rfl g_1 ?_
  refine jw_if_eq (tgt := 20) (pc' := 7) rfl rfl (fun c_2 => ?_) (fun c_2 => ?_)
  · replace w := w.1 c_2
    exact w_X8_message_20 w
  · replace w := w.2 c_2
    refine jw_iload_n (pc' := 8) rfl rfl ?_
    refine jw_bipush (pc' := 10) (x := (83 : Int32)) rfl rfl ?_
    refine jw_icmp_eq (tgt := 20) (pc' := 13) rfl rfl (fun c_3 => ?_) (fun c_3 => ?_)
    · replace w := w.1 c_3
      exact w_X8_message_20 w
    · replace w := w.2 c_3
      refine jw_iload_n (pc' := 14) rfl rfl ?_
      refine jw_bipush (pc' := 16) (x := (88 : Int32)) rfl rfl ?_
      refine jw_icmp_eq (tgt := 20) (pc' := 19) rfl rfl (fun c_4 => ?_) (fun c_4 => ?_)
      · replace w := w.1 c_4
        exact w_X8_message_20 w
      · replace w := w.2 c_4
        exact jw_return rfl rfl w
def T_X8_message (D : JD) (d : Nat) (Q : JO → JH → Prop) (r0 : Nat) (x1 : Int32) (h : JH) : Prop := W_X8_message_0 D d Q r0 x1 h
theorem t_X8_message {D : JD} {d : Nat} {Q : JO → JH → Prop} {r0 : Nat} {x1 : Int32} {h : JH} (w : T_X8_message D d Q r0 x1 h) : cX8_message D (d + 1) r0 x1 h Q := by
  unfold T_X8_message at w
  unfold cX8_message
  exact w_X8_message_0 w
def W_X8_query_280 (D : JD) (d : Nat) (Q : JO → JH → Prop) (K175 : Nat → Int32 → Int32 → JH → Prop) (r0 : Nat) (x2 : Int32) (x3 : Int32) (h : JH) : Prop :=
  K175 r0 x2 (x3 + (1 : Int32)) h
theorem w_X8_query_280 {D : JD} {d : Nat} {Q : JO → JH → Prop} {K175 : Nat → Int32 → Int32 → JH → Prop} {r0 : Nat} {x2 : Int32} {x3 : Int32} {h : JH} (hK175 : ∀ (r0 : Nat) (x2 : Int32) (x3 : Int32) (h : JH), K175 r0 x2 x3 h → JW D (d + 1) mX8_query 175 [some (vR 41 r0), none, some (vI x2), some (vI x3), none, none] [] h Q) (w : W_X8_query_280 D d Q K175 r0 x2 x3 h) : JW D (d + 1) mX8_query 280 [some (vR 41 r0), none, some (vI x2), some (vI x3), none, none] [] h Q := by
  unfold W_X8_query_280 at w
  refine jw_iinc (pc' := 283) (y := x3 + (1 : Int32)) (ls' := [some (vR 41 r0), none, some (vI x2), some (vI (x3 + (1 : Int32))), none, none]) rfl (by decide) rfl rfl rfl ?_
  refine jw_goto (pc' := 175) rfl rfl ?_
  exact hK175 _ _ _ _ w
def W_X8_query_238 (D : JD) (d : Nat) (Q : JO → JH → Prop) (K175 : Nat → Int32 → Int32 → JH → Prop) (K238 : Nat → Int32 → Int32 → Int32 → JH → Prop) (r0 : Nat) (x2 : Int32) (x3 : Int32) (x5 : Int32) (h : JH) : Prop :=
  r0 ≠ 0 ∧ ((jfr h 235 r0) ≠ 0 ∧ (((jfi h 258 (jfr h 235 r0)) ≤ x5 → cX8_tag D d r0 (jcs D 335) (jfi h 258 (jfr h 235 r0)) h (pV D h (fun h_4 => W_X8_query_280 D d Q K175 r0 x2 x3 h_4) (jth Q))) ∧ (¬ (jfi h 258 (jfr h 235 r0)) ≤ x5 → cX8_data D d r0 (jfr h 235 r0) x5 h (pV D h (fun h_7 => K238 r0 x2 x3 (x5 + (1 : Int32)) h_7) (jth Q)))))
theorem w_X8_query_238 {D : JD} {d : Nat} {Q : JO → JH → Prop} {K175 : Nat → Int32 → Int32 → JH → Prop} {K238 : Nat → Int32 → Int32 → Int32 → JH → Prop} {r0 : Nat} {x2 : Int32} {x3 : Int32} {x5 : Int32} {h : JH} (hK175 : ∀ (r0 : Nat) (x2 : Int32) (x3 : Int32) (h : JH), K175 r0 x2 x3 h → JW D (d + 1) mX8_query 175 [some (vR 41 r0), none, some (vI x2), some (vI x3), none, none] [] h Q) (hK238 : ∀ (r0 : Nat) (x2 : Int32) (x3 : Int32) (x5 : Int32) (h : JH), K238 r0 x2 x3 x5 h → JW D (d + 1) mX8_query 238 [some (vR 41 r0), none, some (vI x2), some (vI x3), none, some (vI x5)] [] h Q) (w : W_X8_query_238 D d Q K175 K238 r0 x2 x3 x5 h) : JW D (d + 1) mX8_query 238 [some (vR 41 r0), none, some (vI x2), some (vI x3), none, some (vI x5)] [] h Q := by
  unfold W_X8_query_238 at w
  refine jw_iload (pc' := 240) rfl rfl ?_
  refine jw_aload_n (pc' := 241) rfl rfl ?_
  obtain ⟨g_1, w⟩ := w
  refine jw_getR (pc' := 244) (F := 235) (t' := 120) rfl rfl rfl rfl rfl g_1 ?_
  obtain ⟨g_2, w⟩ := w
  refine jw_getI (pc' := 247) (F := 258) rfl rfl rfl rfl g_2 ?_
  refine jw_icmp_ge (tgt := 266) (pc' := 250) rfl rfl (fun c_3 => ?_) (fun c_3 => ?_)
  · replace w := w.1 c_3
    refine jw_aload_n (pc' := 267) rfl rfl ?_
    refine jw_ldcwS (pc' := 270) rfl rfl rfl rfl ?_
    refine jw_aload_n (pc' := 271) rfl rfl ?_
    refine jw_getR (pc' := 274) (F := 235) (t' := 120) rfl rfl rfl rfl rfl g_1 ?_
    refine jw_getI (pc' := 277) (F := 258) rfl rfl rfl rfl g_2 ?_
    refine jw_cV (st := []) (sa := [vR 41 r0, vR 51 (jcs D 335), vI (jfi h 258 (jfr h 235 r0))]) okX8_tag rfl rfl rfl rfl rfl rfl (jstp_virtual (sa := [vR 51 (jcs D 335), vI (jfi h 258 (jfr h 235 r0))]) (st := []) (k := 0) rfl rfl sX8_tag okX8_tag g_1 (one41.k g_1) rfl rfl) w (fun h_4 _ _ w => ?_)
    refine jw_gen (ls' := [some (vR 41 r0), none, some (vI x2), some (vI x3), none, none]) (st' := []) (And.intro (Or.inl rfl) (And.intro (Or.inl rfl) (And.intro (Or.inl rfl) (trivial)))) (trivial) ?_
    exact w_X8_query_280 hK175 w
  · replace w := w.2 c_3
    refine jw_aload_n (pc' := 251) rfl rfl ?_
    refine jw_aload_n (pc' := 252) rfl rfl ?_
    refine jw_getR (pc' := 255) (F := 235) (t' := 120) rfl rfl rfl rfl rfl g_1 ?_
    refine jw_iload (pc' := 257) rfl rfl ?_
    refine jw_cV (st := []) (sa := [vR 41 r0, vR 120 (jfr h 235 r0), vI x5]) okX8_data rfl rfl rfl rfl rfl rfl (jstp_virtual (sa := [vR 120 (jfr h 235 r0), vI x5]) (st := []) (k := 0) rfl rfl sX8_data okX8_data g_1 (one41.k g_1) rfl rfl) w (fun h_7 _ _ w => ?_)
    refine jw_iinc (pc' := 263) (y := x5 + (1 : Int32)) (ls' := [some (vR 41 r0), none, some (vI x2), some (vI x3), none, some (vI (x5 + (1 : Int32)))]) rfl (by decide) rfl rfl rfl ?_
    refine jw_goto (pc' := 238) rfl rfl ?_
    exact hK238 _ _ _ _ _ w
def L_X8_query_238 (D : JD) (d : Nat) (Q : JO → JH → Prop) (K175 : Nat → Int32 → Int32 → JH → Prop) : Nat → Nat → Int32 → Int32 → Int32 → JH → Prop
  | 0 => fun _ _ _ _ _ => False
  | n + 1 => fun r0 x2 x3 x5 h => W_X8_query_238 D d Q K175 (L_X8_query_238 D d Q K175 n) r0 x2 x3 x5 h
theorem l_X8_query_238 {D : JD} {d : Nat} {Q : JO → JH → Prop} {K175 : Nat → Int32 → Int32 → JH → Prop} (hK175 : ∀ (r0 : Nat) (x2 : Int32) (x3 : Int32) (h : JH), K175 r0 x2 x3 h → JW D (d + 1) mX8_query 175 [some (vR 41 r0), none, some (vI x2), some (vI x3), none, none] [] h Q) : ∀ (n : Nat) (r0 : Nat) (x2 : Int32) (x3 : Int32) (x5 : Int32) (h : JH), L_X8_query_238 D d Q K175 n r0 x2 x3 x5 h → JW D (d + 1) mX8_query 238 [some (vR 41 r0), none, some (vI x2), some (vI x3), none, some (vI x5)] [] h Q := by
  intro n
  induction n with
  | zero => intro _ _ _ _ _ w; exact w.elim
  | succ n ih => intro _ _ _ _ h w; exact w_X8_query_238 hK175 ih w
def W_X8_query_175 (D : JD) (d : Nat) (Q : JO → JH → Prop) (K175 : Nat → Int32 → Int32 → JH → Prop) (r0 : Nat) (x2 : Int32) (x3 : Int32) (h : JH) : Prop :=
  (x2 ≤ x3 → r0 ≠ 0 ∧ (cX8_endAsk D d r0 h (pV D h (fun h_3 => Q (.inl none) h_3) (jth Q)))) ∧ (¬ x2 ≤ x3 → r0 ≠ 0 ∧ ((jfr h 241 r0) ≠ 0 ∧ jin x3 (jln h (jfr h 241 r0)) ∧ (cX8_allowed D d r0 (jar h (jfr h 241 r0) (ixn x3)) h (pV D h (fun h_9 => (jar h (jfr h 241 r0) (ixn x3)) ≠ 0 ∧ (((jfi h_9 270 (jar h (jfr h 241 r0) (ixn x3))) = (8 : Int32) → cX8_check D d r0 (jar h (jfr h 241 r0) (ixn x3)) h_9 (pV D h_9 (fun h_14 => cX8_select_2 D d r0 (jar h (jfr h 241 r0) (ixn x3)) (jfr h_14 235 r0) h_14 (pV D h_14 (fun h_17 => cX8_columns D d r0 (jar h (jfr h 241 r0) (ixn x3)) h_17 (pV D h_17 (fun h_20 => ∃ n, L_X8_query_238 D d Q K175 n r0 x2 x3 (0 : Int32) h_20) (jth Q))) (jth Q))) (jth Q))) ∧ (¬ (jfi h_9 270 (jar h (jfr h 241 r0) (ixn x3))) = (8 : Int32) → cX8_act D d r0 (jar h (jfr h 241 r0) (ixn x3)) h_9 (pV D h_9 (fun h_23 => W_X8_query_280 D d Q K175 r0 x2 x3 h_23) (jth Q))))) (jth Q)))))
theorem w_X8_query_175 {D : JD} {d : Nat} {Q : JO → JH → Prop} {K175 : Nat → Int32 → Int32 → JH → Prop} {r0 : Nat} {x2 : Int32} {x3 : Int32} {h : JH} (hK175 : ∀ (r0 : Nat) (x2 : Int32) (x3 : Int32) (h : JH), K175 r0 x2 x3 h → JW D (d + 1) mX8_query 175 [some (vR 41 r0), none, some (vI x2), some (vI x3), none, none] [] h Q) (w : W_X8_query_175 D d Q K175 r0 x2 x3 h) : JW D (d + 1) mX8_query 175 [some (vR 41 r0), none, some (vI x2), some (vI x3), none, none] [] h Q := by
  unfold W_X8_query_175 at w
  refine jw_iload_n (pc' := 176) rfl rfl ?_
  refine jw_iload_n (pc' := 177) rfl rfl ?_
  refine jw_icmp_ge (tgt := 286) (pc' := 180) rfl rfl (fun c_1 => ?_) (fun c_1 => ?_)
  · replace w := w.1 c_1
    refine jw_aload_n (pc' := 287) rfl rfl ?_
    obtain ⟨g_2, w⟩ := w
    refine jw_cV (st := []) (sa := [vR 41 r0]) okX8_endAsk rfl rfl rfl rfl rfl rfl (jstp_virtual (sa := []) (st := []) (k := 0) rfl rfl sX8_endAsk okX8_endAsk g_2 (one41.k g_2) rfl rfl) w (fun h_3 _ _ w => ?_)
    exact jw_return rfl rfl w
  · replace w := w.2 c_1
    refine jw_aload_n (pc' := 181) rfl rfl ?_
    obtain ⟨g_6, w⟩ := w
    refine jw_getR (pc' := 184) (F := 241) (t' := 183) rfl rfl rfl rfl rfl g_6 ?_
    refine jw_iload_n (pc' := 185) rfl rfl ?_
    obtain ⟨g_7, w⟩ := w
    obtain ⟨g_8, w⟩ := w
    refine jw_aald (pc' := 186) (t' := 47) rfl rfl rfl rfl g_7 g_8.ix g_8.2 ?_
    refine jw_astore (pc' := 188) (ls' := [some (vR 41 r0), none, some (vI x2), some (vI x3), some (vR 47 (jar h (jfr h 241 r0) (ixn x3))), none]) rfl (by decide) rfl ?_
    refine jw_aload_n (pc' := 189) rfl rfl ?_
    refine jw_aload (pc' := 191) rfl rfl ?_
    refine jw_cV (st := []) (sa := [vR 41 r0, vR 47 (jar h (jfr h 241 r0) (ixn x3))]) okX8_allowed rfl rfl rfl rfl rfl rfl (jstp_virtual (sa := [vR 47 (jar h (jfr h 241 r0) (ixn x3))]) (st := []) (k := 0) rfl rfl sX8_allowed okX8_allowed g_6 (one41.k g_6) rfl rfl) w (fun h_9 _ _ w => ?_)
    refine jw_aload (pc' := 196) rfl rfl ?_
    obtain ⟨g_12, w⟩ := w
    refine jw_getI (pc' := 199) (F := 270) rfl rfl rfl rfl g_12 ?_
    refine jw_bipush (pc' := 201) (x := (8 : Int32)) rfl rfl ?_
    refine jw_icmp_eq (tgt := 213) (pc' := 204) rfl rfl (fun c_13 => ?_) (fun c_13 => ?_)
    · replace w := w.1 c_13
      refine jw_aload_n (pc' := 214) rfl rfl ?_
      refine jw_aload (pc' := 216) rfl rfl ?_
      refine jw_cV (st := []) (sa := [vR 41 r0, vR 47 (jar h (jfr h 241 r0) (ixn x3))]) okX8_check rfl rfl rfl rfl rfl rfl (jstp_virtual (sa := [vR 47 (jar h (jfr h 241 r0) (ixn x3))]) (st := []) (k := 0) rfl rfl sX8_check okX8_check g_6 (one41.k g_6) rfl rfl) w (fun h_14 _ _ w => ?_)
      refine jw_aload_n (pc' := 220) rfl rfl ?_
      refine jw_aload (pc' := 222) rfl rfl ?_
      refine jw_aload_n (pc' := 223) rfl rfl ?_
      refine jw_getR (pc' := 226) (F := 235) (t' := 120) rfl rfl rfl rfl rfl g_6 ?_
      refine jw_cV (st := []) (sa := [vR 41 r0, vR 47 (jar h (jfr h 241 r0) (ixn x3)), vR 120 (jfr h_14 235 r0)]) okX8_select_2 rfl rfl rfl rfl rfl rfl (jstp_virtual (sa := [vR 47 (jar h (jfr h 241 r0) (ixn x3)), vR 120 (jfr h_14 235 r0)]) (st := []) (k := 0) rfl rfl sX8_select_2 okX8_select_2 g_6 (one41.k g_6) rfl rfl) w (fun h_17 _ _ w => ?_)
      refine jw_aload_n (pc' := 230) rfl rfl ?_
      refine jw_aload (pc' := 232) rfl rfl ?_
      refine jw_cV (st := []) (sa := [vR 41 r0, vR 47 (jar h (jfr h 241 r0) (ixn x3))]) okX8_columns rfl rfl rfl rfl rfl rfl (jstp_virtual (sa := [vR 47 (jar h (jfr h 241 r0) (ixn x3))]) (st := []) (k := 0) rfl rfl sX8_columns okX8_columns g_6 (one41.k g_6) rfl rfl) w (fun h_20 _ _ w => ?_)
      refine jw_iconst (pc' := 236) (x := (0 : Int32)) rfl rfl ?_
      refine jw_istore (pc' := 238) (ls' := [some (vR 41 r0), none, some (vI x2), some (vI x3), some (vR 47 (jar h (jfr h 241 r0) (ixn x3))), some (vI (0 : Int32))]) rfl (by decide) rfl ?_
      refine jw_gen (ls' := [some (vR 41 r0), none, some (vI x2), some (vI x3), none, some (vI (0 : Int32))]) (st' := []) (And.intro (Or.inl rfl) (And.intro (Or.inl rfl) (And.intro (Or.inl rfl) (And.intro (Or.inl rfl) (trivial))))) (trivial) ?_
      obtain ⟨n, w⟩ := w
      exact l_X8_query_238 hK175 n _ _ _ _ _ w
    · replace w := w.2 c_13
      refine jw_aload_n (pc' := 205) rfl rfl ?_
      refine jw_aload (pc' := 207) rfl rfl ?_
      refine jw_cV (st := []) (sa := [vR 41 r0, vR 47 (jar h (jfr h 241 r0) (ixn x3))]) okX8_act rfl rfl rfl rfl rfl rfl (jstp_virtual (sa := [vR 47 (jar h (jfr h 241 r0) (ixn x3))]) (st := []) (k := 0) rfl rfl sX8_act okX8_act g_6 (one41.k g_6) rfl rfl) w (fun h_23 _ _ w => ?_)
      refine jw_goto (pc' := 280) rfl rfl ?_
      refine jw_gen (ls' := [some (vR 41 r0), none, some (vI x2), some (vI x3), none, none]) (st' := []) (And.intro (Or.inl rfl) (And.intro (Or.inl rfl) (And.intro (Or.inl rfl) (trivial)))) (trivial) ?_
      exact w_X8_query_280 hK175 w
def L_X8_query_175 (D : JD) (d : Nat) (Q : JO → JH → Prop) : Nat → Nat → Int32 → Int32 → JH → Prop
  | 0 => fun _ _ _ _ => False
  | n + 1 => fun r0 x2 x3 h => W_X8_query_175 D d Q (L_X8_query_175 D d Q n) r0 x2 x3 h
theorem l_X8_query_175 {D : JD} {d : Nat} {Q : JO → JH → Prop} : ∀ (n : Nat) (r0 : Nat) (x2 : Int32) (x3 : Int32) (h : JH), L_X8_query_175 D d Q n r0 x2 x3 h → JW D (d + 1) mX8_query 175 [some (vR 41 r0), none, some (vI x2), some (vI x3), none, none] [] h Q := by
  intro n
  induction n with
  | zero => intro _ _ _ _ w; exact w.elim
  | succ n ih => intro _ _ _ h w; exact w_X8_query_175 ih w
def W_X8_query_160 (D : JD) (d : Nat) (Q : JO → JH → Prop) (r0 : Nat) (x2 : Int32) (h : JH) : Prop :=
  r0 ≠ 0 ∧ ((jfr h 235 r0) ≠ 0 ∧ ∀ h_3 : JH, h_3 = wfi h 259 (jfr h 235 r0) (0 : Int32) → (∀ h_5 : JH, h_5 = wfi h_3 198 r0 (0 : Int32) → (∃ n, L_X8_query_175 D d Q n r0 x2 (0 : Int32) h_5)))
theorem w_X8_query_160 {D : JD} {d : Nat} {Q : JO → JH → Prop} {r0 : Nat} {x2 : Int32} {h : JH} (w : W_X8_query_160 D d Q r0 x2 h) : JW D (d + 1) mX8_query 160 [some (vR 41 r0), none, some (vI x2), none, none, none] [] h Q := by
  unfold W_X8_query_160 at w
  refine jw_aload_n (pc' := 161) rfl rfl ?_
  obtain ⟨g_1, w⟩ := w
  refine jw_getR (pc' := 164) (F := 235) (t' := 120) rfl rfl rfl rfl rfl g_1 ?_
  refine jw_iconst (pc' := 165) (x := (0 : Int32)) rfl rfl ?_
  obtain ⟨g_2, w⟩ := w
  refine jw_putI' (pc' := 168) (F := 259) rfl rfl rfl (Or.inr rfl) (Or.inl rfl) rfl (rfl) (rfl) rfl g_2 (fun h_3 e_4 => ?_)
  replace w := w h_3 e_4
  refine jw_aload_n (pc' := 169) rfl rfl ?_
  refine jw_iconst (pc' := 170) (x := (0 : Int32)) rfl rfl ?_
  refine jw_putI' (pc' := 173) (F := 198) rfl rfl rfl (Or.inr rfl) (Or.inl rfl) rfl (rfl) (rfl) rfl g_1 (fun h_5 e_6 => ?_)
  replace w := w h_5 e_6
  refine jw_iconst (pc' := 174) (x := (0 : Int32)) rfl rfl ?_
  refine jw_istore_n (pc' := 175) (ls' := [some (vR 41 r0), none, some (vI x2), some (vI (0 : Int32)), none, none]) rfl (by decide) rfl ?_
  obtain ⟨n, w⟩ := w
  exact l_X8_query_175 n _ _ _ _ w
def W_X8_query_144 (D : JD) (d : Nat) (Q : JO → JH → Prop) (K46 : Nat → Int32 → JH → Prop) (r0 : Nat) (x2 : Int32) (q0 : Nat) (s1 : Int32) (h : JH) : Prop :=
  q0 ≠ 0 ∧ (cX8_can D d q0 s1 h (pV D h (fun h_2 => K46 r0 x2 h_2) (jth Q)))
theorem w_X8_query_144 {D : JD} {d : Nat} {Q : JO → JH → Prop} {K46 : Nat → Int32 → JH → Prop} {r0 : Nat} {x2 : Int32} {q0 : Nat} {s1 : Int32} {h : JH} (hK46 : ∀ (r0 : Nat) (x2 : Int32) (h : JH), K46 r0 x2 h → JW D (d + 1) mX8_query 46 [some (vR 41 r0), none, some (vI x2), none, none, none] [] h Q) (w : W_X8_query_144 D d Q K46 r0 x2 q0 s1 h) : JW D (d + 1) mX8_query 144 [some (vR 41 r0), none, some (vI x2), none, none, none] [vI s1, vR 41 q0] h Q := by
  unfold W_X8_query_144 at w
  obtain ⟨g_1, w⟩ := w
  refine jw_cV (st := []) (sa := [vR 41 q0, vI s1]) okX8_can rfl rfl rfl rfl rfl rfl (jstp_virtual (sa := [vI s1]) (st := []) (k := 0) rfl rfl sX8_can okX8_can g_1 (one41.k g_1) rfl rfl) w (fun h_2 _ _ w => ?_)
  refine jw_goto (pc' := 46) rfl rfl ?_
  exact hK46 _ _ _ w
def W_X8_query_139 (D : JD) (d : Nat) (Q : JO → JH → Prop) (K46 : Nat → Int32 → JH → Prop) (r0 : Nat) (x2 : Int32) (q0 : Nat) (h : JH) : Prop :=
  W_X8_query_144 D d Q K46 r0 x2 q0 (1 : Int32) h
theorem w_X8_query_139 {D : JD} {d : Nat} {Q : JO → JH → Prop} {K46 : Nat → Int32 → JH → Prop} {r0 : Nat} {x2 : Int32} {q0 : Nat} {h : JH} (hK46 : ∀ (r0 : Nat) (x2 : Int32) (h : JH), K46 r0 x2 h → JW D (d + 1) mX8_query 46 [some (vR 41 r0), none, some (vI x2), none, none, none] [] h Q) (w : W_X8_query_139 D d Q K46 r0 x2 q0 h) : JW D (d + 1) mX8_query 139 [some (vR 41 r0), none, some (vI x2), none, none, none] [vR 41 q0] h Q := by
  unfold W_X8_query_139 at w
  refine jw_iconst (pc' := 140) (x := (1 : Int32)) rfl rfl ?_
  refine jw_goto (pc' := 144) rfl rfl ?_
  exact w_X8_query_144 hK46 w
def W_X8_query_103 (D : JD) (d : Nat) (Q : JO → JH → Prop) (K46 : Nat → Int32 → JH → Prop) (r0 : Nat) (x2 : Int32) (h : JH) : Prop :=
  r0 ≠ 0 ∧ ((jfr h 241 r0) ≠ 0 ∧ jin x2 (jln h (jfr h 241 r0)) ∧ (∀ h_4 : JH, h_4 = wfr h 191 r0 (jar h (jfr h 241 r0) (ixn x2)) → (cX8_statement D d r0 h_4 (pR D h_4 47 (fun v_8 h_6 => ((jfi h_6 183 r0) = 0 → W_X8_query_139 D d Q K46 r0 (x2 + (1 : Int32)) r0 h_6) ∧ (¬ (jfi h_6 183 r0) = 0 → cX8_is D d r0 (jcs D 235) h_6 (pI D h_6 (fun v_12 h_10 => (v_12 = 0 → W_X8_query_144 D d Q K46 r0 (x2 + (1 : Int32)) r0 (0 : Int32) h_10) ∧ (¬ v_12 = 0 → W_X8_query_139 D d Q K46 r0 (x2 + (1 : Int32)) r0 h_10)) (jth Q)))) (jth Q)))))
theorem w_X8_query_103 {D : JD} {d : Nat} {Q : JO → JH → Prop} {K46 : Nat → Int32 → JH → Prop} {r0 : Nat} {x2 : Int32} {h : JH} (hK46 : ∀ (r0 : Nat) (x2 : Int32) (h : JH), K46 r0 x2 h → JW D (d + 1) mX8_query 46 [some (vR 41 r0), none, some (vI x2), none, none, none] [] h Q) (w : W_X8_query_103 D d Q K46 r0 x2 h) : JW D (d + 1) mX8_query 103 [some (vR 41 r0), none, some (vI x2), none, none, none] [] h Q := by
  unfold W_X8_query_103 at w
  refine jw_aload_n (pc' := 104) rfl rfl ?_
  refine jw_aload_n (pc' := 105) rfl rfl ?_
  obtain ⟨g_1, w⟩ := w
  refine jw_getR (pc' := 108) (F := 241) (t' := 183) rfl rfl rfl rfl rfl g_1 ?_
  refine jw_iload_n (pc' := 109) rfl rfl ?_
  obtain ⟨g_2, w⟩ := w
  obtain ⟨g_3, w⟩ := w
  refine jw_aald (pc' := 110) (t' := 47) rfl rfl rfl rfl g_2 g_3.ix g_3.2 ?_
  refine jw_putR' (pc' := 113) (F := 191) rfl rfl rfl (Or.inr rfl) (Or.inl rfl) rfl rfl rfl g_1 (fun h_4 e_5 => ?_)
  replace w := w h_4 e_5
  refine jw_aload_n (pc' := 114) rfl rfl ?_
  refine jw_cR (st := []) (sa := [vR 41 r0]) okX8_statement rfl rfl rfl rfl rfl rfl (jstp_virtual (sa := []) (st := []) (k := 0) rfl rfl sX8_statement okX8_statement g_1 (one41.k g_1) rfl rfl) w (fun v_8 h_6 _ _ _ w => ?_)
  refine jw_pop (pc' := 118) rfl rfl ?_
  refine jw_iinc (pc' := 121) (y := x2 + (1 : Int32)) (ls' := [some (vR 41 r0), none, some (vI (x2 + (1 : Int32))), none, none, none]) rfl (by decide) rfl rfl rfl ?_
  refine jw_aload_n (pc' := 122) rfl rfl ?_
  refine jw_aload_n (pc' := 123) rfl rfl ?_
  refine jw_getI (pc' := 126) (F := 183) rfl rfl rfl rfl g_1 ?_
  refine jw_if_eq (tgt := 139) (pc' := 129) rfl rfl (fun c_9 => ?_) (fun c_9 => ?_)
  · replace w := w.1 c_9
    exact w_X8_query_139 hK46 w
  · replace w := w.2 c_9
    refine jw_aload_n (pc' := 130) rfl rfl ?_
    refine jw_ldcwS (pc' := 133) rfl rfl rfl rfl ?_
    refine jw_cI (st := [vR 41 r0]) (sa := [vR 41 r0, vR 51 (jcs D 235)]) okX8_is rfl rfl rfl rfl rfl rfl (jstp_virtual (sa := [vR 51 (jcs D 235)]) (st := [vR 41 r0]) (k := 0) rfl rfl sX8_is okX8_is g_1 (one41.k g_1) rfl rfl) w (fun v_12 h_10 _ _ w => ?_)
    refine jw_if_eq (tgt := 143) (pc' := 139) rfl rfl (fun c_13 => ?_) (fun c_13 => ?_)
    · replace w := w.1 c_13
      refine jw_iconst (pc' := 144) (x := (0 : Int32)) rfl rfl ?_
      exact w_X8_query_144 hK46 w
    · replace w := w.2 c_13
      exact w_X8_query_139 hK46 w
def W_X8_query_78 (D : JD) (d : Nat) (Q : JO → JH → Prop) (K46 : Nat → Int32 → JH → Prop) (r0 : Nat) (x2 : Int32) (q0 : Nat) (s1 : Int32) (h : JH) : Prop :=
  q0 ≠ 0 ∧ (cX8_can D d q0 s1 h (pV D h (fun h_2 => r0 ≠ 0 ∧ ((jfr h_2 241 r0) ≠ 0 ∧ jin x2 (jln h_2 (jfr h_2 241 r0)) ∧ (((jar h_2 (jfr h_2 241 r0) (ixn x2)) ≠ 0 → W_X8_query_103 D d Q K46 r0 x2 h_2) ∧ ((jar h_2 (jfr h_2 241 r0) (ixn x2)) = 0 → ∀ (r_9 : Nat) (h_10 : JH), r_9 = jsz h_2 + 1 → h_10 = nwo h_2 47 35 → (cX45_init D d r_9 h_10 (pV D h_10 (fun h_13 => jin x2 (jln h_13 (jfr h_2 241 r0)) ∧ ∀ h_17 : JH, h_17 = war h_13 (jfr h_2 241 r0) (ixn x2) r_9 → (W_X8_query_103 D d Q K46 r0 x2 h_17)) (jth Q))))))) (jth Q)))
theorem w_X8_query_78 {D : JD} {d : Nat} {Q : JO → JH → Prop} {K46 : Nat → Int32 → JH → Prop} {r0 : Nat} {x2 : Int32} {q0 : Nat} {s1 : Int32} {h : JH} (hK46 : ∀ (r0 : Nat) (x2 : Int32) (h : JH), K46 r0 x2 h → JW D (d + 1) mX8_query 46 [some (vR 41 r0), none, some (vI x2), none, none, none] [] h Q) (w : W_X8_query_78 D d Q K46 r0 x2 q0 s1 h) : JW D (d + 1) mX8_query 78 [some (vR 41 r0), none, some (vI x2), none, none, none] [vI s1, vR 41 q0] h Q := by
  unfold W_X8_query_78 at w
  obtain ⟨g_1, w⟩ := w
  refine jw_cV (st := []) (sa := [vR 41 q0, vI s1]) okX8_can rfl rfl rfl rfl rfl rfl (jstp_virtual (sa := [vI s1]) (st := []) (k := 0) rfl rfl sX8_can okX8_can g_1 (one41.k g_1) rfl rfl) w (fun h_2 _ _ w => ?_)
  refine jw_aload_n (pc' := 82) rfl rfl ?_
  obtain ⟨g_5, w⟩ := w
  refine jw_getR (pc' := 85) (F := 241) (t' := 183) rfl rfl rfl rfl rfl g_5 ?_
  refine jw_iload_n (pc' := 86) rfl rfl ?_
  obtain ⟨g_6, w⟩ := w
  obtain ⟨g_7, w⟩ := w
  refine jw_aald (pc' := 87) (t' := 47) rfl rfl rfl rfl g_6 g_7.ix g_7.2 ?_
  refine jw_ifnonnull (tgt := 103) (pc' := 90) rfl rfl (fun c_8 => ?_) (fun c_8 => ?_)
  · replace w := w.1 c_8
    exact w_X8_query_103 hK46 w
  · replace w := w.2 c_8
    refine jw_aload_n (pc' := 91) rfl rfl ?_
    refine jw_getR (pc' := 94) (F := 241) (t' := 183) rfl rfl rfl rfl rfl g_5 ?_
    refine jw_iload_n (pc' := 95) rfl rfl ?_
    refine jw_new' (pc' := 98) (k := 47) (n := 35) rfl rfl rfl rfl rfl rfl rfl (fun r_9 h_10 e_11 e_12 => ?_)
    replace w := w r_9 h_10 e_11 e_12
    refine jw_dup (pc' := 99) rfl rfl ?_
    refine jw_cV (st := [vR 47 r_9, vI x2, vR 183 (jfr h_2 241 r0)]) (sa := [vR 47 r_9]) okX45_init rfl rfl rfl rfl rfl rfl (jstp_init (sa := []) (st := [vR 47 r_9, vI x2, vR 183 (jfr h_2 241 r0)]) rfl rfl sX45_init okX45_init (lw_g (jtb_mem (c := 18) (i := 46) rfl) rfl) (jnz e_11) rfl rfl) w (fun h_13 _ _ w => ?_)
    obtain ⟨g_16, w⟩ := w
    refine jw_aast' (pc' := 103) rfl rfl rfl rfl rfl rfl g_6 g_16 (fun h_17 e_18 => ?_)
    replace w := w h_17 e_18
    exact w_X8_query_103 hK46 w
def W_X8_query_46 (D : JD) (d : Nat) (Q : JO → JH → Prop) (K46 : Nat → Int32 → JH → Prop) (r0 : Nat) (x2 : Int32) (h : JH) : Prop :=
  r0 ≠ 0 ∧ (((jfi h 183 r0) = 0 → (¬ x2 = 0 → W_X8_query_160 D d Q r0 x2 h) ∧ (x2 = 0 → cX8_empty D d r0 (73 : Int32) h (pV D h (fun h_4 => W_X8_query_160 D d Q r0 x2 h_4) (jth Q)))) ∧ (¬ (jfi h 183 r0) = 0 → cX8_take D d r0 (jcs D 235) h (pI D h (fun v_9 h_7 => (v_9 = 0 → ((20 : Int32) ≤ x2 → W_X8_query_78 D d Q K46 r0 x2 r0 (0 : Int32) h_7) ∧ (¬ (20 : Int32) ≤ x2 → W_X8_query_78 D d Q K46 r0 x2 r0 (1 : Int32) h_7)) ∧ (¬ v_9 = 0 → K46 r0 x2 h_7)) (jth Q))))
theorem w_X8_query_46 {D : JD} {d : Nat} {Q : JO → JH → Prop} {K46 : Nat → Int32 → JH → Prop} {r0 : Nat} {x2 : Int32} {h : JH} (hK46 : ∀ (r0 : Nat) (x2 : Int32) (h : JH), K46 r0 x2 h → JW D (d + 1) mX8_query 46 [some (vR 41 r0), none, some (vI x2), none, none, none] [] h Q) (w : W_X8_query_46 D d Q K46 r0 x2 h) : JW D (d + 1) mX8_query 46 [some (vR 41 r0), none, some (vI x2), none, none, none] [] h Q := by
  unfold W_X8_query_46 at w
  refine jw_aload_n (pc' := 47) rfl rfl ?_
  obtain ⟨g_1, w⟩ := w
  refine jw_getI (pc' := 50) (F := 183) rfl rfl rfl rfl g_1 ?_
  refine jw_if_eq (tgt := 150) (pc' := 53) rfl rfl (fun c_2 => ?_) (fun c_2 => ?_)
  · replace w := w.1 c_2
    refine jw_iload_n (pc' := 151) rfl rfl ?_
    refine jw_if_ne (tgt := 160) (pc' := 154) rfl rfl (fun c_3 => ?_) (fun c_3 => ?_)
    · replace w := w.1 c_3
      exact w_X8_query_160 w
    · replace w := w.2 c_3
      refine jw_aload_n (pc' := 155) rfl rfl ?_
      refine jw_bipush (pc' := 157) (x := (73 : Int32)) rfl rfl ?_
      refine jw_cV (st := []) (sa := [vR 41 r0, vI (73 : Int32)]) okX8_empty rfl rfl rfl rfl rfl rfl (jstp_virtual (sa := [vI (73 : Int32)]) (st := []) (k := 0) rfl rfl sX8_empty okX8_empty g_1 (one41.k g_1) rfl rfl) w (fun h_4 _ _ w => ?_)
      exact w_X8_query_160 w
  · replace w := w.2 c_2
    refine jw_aload_n (pc' := 54) rfl rfl ?_
    refine jw_ldcwS (pc' := 57) rfl rfl rfl rfl ?_
    refine jw_cI (st := []) (sa := [vR 41 r0, vR 51 (jcs D 235)]) okX8_take rfl rfl rfl rfl rfl rfl (jstp_virtual (sa := [vR 51 (jcs D 235)]) (st := []) (k := 0) rfl rfl sX8_take okX8_take g_1 (one41.k g_1) rfl rfl) w (fun v_9 h_7 _ _ w => ?_)
    refine jw_if_eq (tgt := 66) (pc' := 63) rfl rfl (fun c_10 => ?_) (fun c_10 => ?_)
    · replace w := w.1 c_10
      refine jw_aload_n (pc' := 67) rfl rfl ?_
      refine jw_iload_n (pc' := 68) rfl rfl ?_
      refine jw_bipush (pc' := 70) (x := (20 : Int32)) rfl rfl ?_
      refine jw_icmp_ge (tgt := 77) (pc' := 73) rfl rfl (fun c_11 => ?_) (fun c_11 => ?_)
      · replace w := w.1 c_11
        refine jw_iconst (pc' := 78) (x := (0 : Int32)) rfl rfl ?_
        exact w_X8_query_78 hK46 w
      · replace w := w.2 c_11
        refine jw_iconst (pc' := 74) (x := (1 : Int32)) rfl rfl ?_
        refine jw_goto (pc' := 78) rfl rfl ?_
        exact w_X8_query_78 hK46 w
    · replace w := w.2 c_10
      refine jw_goto (pc' := 46) rfl rfl ?_
      exact hK46 _ _ _ w
def L_X8_query_46 (D : JD) (d : Nat) (Q : JO → JH → Prop) : Nat → Nat → Int32 → JH → Prop
  | 0 => fun _ _ _ => False
  | n + 1 => fun r0 x2 h => W_X8_query_46 D d Q (L_X8_query_46 D d Q n) r0 x2 h
theorem l_X8_query_46 {D : JD} {d : Nat} {Q : JO → JH → Prop} : ∀ (n : Nat) (r0 : Nat) (x2 : Int32) (h : JH), L_X8_query_46 D d Q n r0 x2 h → JW D (d + 1) mX8_query 46 [some (vR 41 r0), none, some (vI x2), none, none, none] [] h Q := by
  intro n
  induction n with
  | zero => intro _ _ _ w; exact w.elim
  | succ n ih => intro _ _ h w; exact w_X8_query_46 ih w
def W_X8_query_33 (D : JD) (d : Nat) (Q : JO → JH → Prop) (r0 : Nat) (x1 : Int32) (h : JH) : Prop :=
  r0 ≠ 0 ∧ (cX8_load D d r0 x1 ((jfi h 238 r0) - (1 : Int32)) h (pV D h (fun h_2 => ∃ n, L_X8_query_46 D d Q n r0 (0 : Int32) h_2) (jth Q)))
theorem w_X8_query_33 {D : JD} {d : Nat} {Q : JO → JH → Prop} {r0 : Nat} {x1 : Int32} {h : JH} (w : W_X8_query_33 D d Q r0 x1 h) : JW D (d + 1) mX8_query 33 [some (vR 41 r0), some (vI x1), none, none, none, none] [] h Q := by
  unfold W_X8_query_33 at w
  refine jw_aload_n (pc' := 34) rfl rfl ?_
  refine jw_iload_n (pc' := 35) rfl rfl ?_
  refine jw_aload_n (pc' := 36) rfl rfl ?_
  obtain ⟨g_1, w⟩ := w
  refine jw_getI (pc' := 39) (F := 238) rfl rfl rfl rfl g_1 ?_
  refine jw_iconst (pc' := 40) (x := (1 : Int32)) rfl rfl ?_
  refine jw_isub (pc' := 41) rfl ?_
  refine jw_cV (st := []) (sa := [vR 41 r0, vI x1, vI ((jfi h 238 r0) - (1 : Int32))]) okX8_load rfl rfl rfl rfl rfl rfl (jstp_virtual (sa := [vI x1, vI ((jfi h 238 r0) - (1 : Int32))]) (st := []) (k := 0) rfl rfl sX8_load okX8_load g_1 (one41.k g_1) rfl rfl) w (fun h_2 _ _ w => ?_)
  refine jw_iconst (pc' := 45) (x := (0 : Int32)) rfl rfl ?_
  refine jw_istore_n (pc' := 46) (ls' := [some (vR 41 r0), some (vI x1), some (vI (0 : Int32)), none, none, none]) rfl (by decide) rfl ?_
  refine jw_gen (ls' := [some (vR 41 r0), none, some (vI (0 : Int32)), none, none, none]) (st' := []) (And.intro (Or.inl rfl) (And.intro (Or.inl rfl) (trivial))) (trivial) ?_
  obtain ⟨n, w⟩ := w
  exact l_X8_query_46 n _ _ _ w
def W_X8_query_0 (D : JD) (d : Nat) (Q : JO → JH → Prop) (r0 : Nat) (h : JH) : Prop :=
  r0 ≠ 0 ∧ (cX8_string D d r0 h (pI D h (fun v_4 h_2 => cX8_ended D d r0 h_2 (pV D h_2 (fun h_5 => ∀ h_8 : JH, h_8 = wfi h_5 240 r0 (1 : Int32) → ((¬ (jfi h_8 228 r0) = (2 : Int32) → W_X8_query_33 D d Q r0 v_4 h_8) ∧ ((jfi h_8 228 r0) = (2 : Int32) → (jfr h_8 179 r0) ≠ 0 ∧ (cX10_take D d (jfr h_8 179 r0) (jfr h_8 178 r0) h_8 (pV D h_8 (fun h_12 => W_X8_query_33 D d Q r0 v_4 h_12) (jth Q)))))) (jth Q))) (jth Q)))
theorem w_X8_query_0 {D : JD} {d : Nat} {Q : JO → JH → Prop} {r0 : Nat} {h : JH} (w : W_X8_query_0 D d Q r0 h) : JW D (d + 1) mX8_query 0 [some (vR 41 r0), none, none, none, none, none] [] h Q := by
  unfold W_X8_query_0 at w
  refine jw_aload_n (pc' := 1) rfl rfl ?_
  obtain ⟨g_1, w⟩ := w
  refine jw_cI (st := []) (sa := [vR 41 r0]) okX8_string rfl rfl rfl rfl rfl rfl (jstp_virtual (sa := []) (st := []) (k := 0) rfl rfl sX8_string okX8_string g_1 (one41.k g_1) rfl rfl) w (fun v_4 h_2 _ _ w => ?_)
  refine jw_istore_n (pc' := 5) (ls' := [some (vR 41 r0), some (vI v_4), none, none, none, none]) rfl (by decide) rfl ?_
  refine jw_aload_n (pc' := 6) rfl rfl ?_
  refine jw_cV (st := []) (sa := [vR 41 r0]) okX8_ended rfl rfl rfl rfl rfl rfl (jstp_virtual (sa := []) (st := []) (k := 0) rfl rfl sX8_ended okX8_ended g_1 (one41.k g_1) rfl rfl) w (fun h_5 _ _ w => ?_)
  refine jw_aload_n (pc' := 10) rfl rfl ?_
  refine jw_iconst (pc' := 11) (x := (1 : Int32)) rfl rfl ?_
  refine jw_putI' (pc' := 14) (F := 240) rfl rfl rfl (Or.inr rfl) (Or.inl rfl) rfl (rfl) (rfl) rfl g_1 (fun h_8 e_9 => ?_)
  replace w := w h_8 e_9
  refine jw_aload_n (pc' := 15) rfl rfl ?_
  refine jw_getI (pc' := 18) (F := 228) rfl rfl rfl rfl g_1 ?_
  refine jw_iconst (pc' := 19) (x := (2 : Int32)) rfl rfl ?_
  refine jw_icmp_ne (tgt := 33) (pc' := 22) rfl rfl (fun c_10 => ?_) (fun c_10 => ?_)
  · replace w := w.1 c_10
    exact w_X8_query_33 w
  · replace w := w.2 c_10
    refine jw_aload_n (pc' := 23) rfl rfl ?_
    refine jw_getR (pc' := 26) (F := 179) (t' := 117) rfl rfl rfl rfl rfl g_1 ?_
    refine jw_aload_n (pc' := 27) rfl rfl ?_
    refine jw_getR (pc' := 30) (F := 178) (t' := 116) rfl rfl rfl rfl rfl g_1 ?_
    obtain ⟨g_11, w⟩ := w
    refine jw_cV (st := []) (sa := [vR 117 (jfr h_8 179 r0), vR 116 (jfr h_8 178 r0)]) okX10_take rfl rfl rfl rfl rfl rfl (jstp_virtual (sa := [vR 116 (jfr h_8 178 r0)]) (st := []) (k := 0) rfl rfl sX10_take okX10_take g_11 (one117.k g_11) rfl rfl) w (fun h_12 _ _ w => ?_)
    exact w_X8_query_33 w
def T_X8_query (D : JD) (d : Nat) (Q : JO → JH → Prop) (r0 : Nat) (h : JH) : Prop := W_X8_query_0 D d Q r0 h
theorem t_X8_query {D : JD} {d : Nat} {Q : JO → JH → Prop} {r0 : Nat} {h : JH} (w : T_X8_query D d Q r0 h) : cX8_query D (d + 1) r0 h Q := by
  unfold T_X8_query at w
  unfold cX8_query
  exact w_X8_query_0 w
def W_X8_load_37 (D : JD) (d : Nat) (Q : JO → JH → Prop) (K37 : Nat → Int32 → Int32 → JH → Prop) (r0 : Nat) (x1 : Int32) (x3 : Int32) (h : JH) : Prop :=
  r0 ≠ 0 ∧ (((jfi h 182 r0) ≤ x3 → ∀ h_3 : JH, h_3 = wfi h 185 r0 (0 : Int32) → (cX8_next D d r0 h_3 (pV D h_3 (fun h_5 => Q (.inl none) h_5) (jth Q)))) ∧ (¬ (jfi h 182 r0) ≤ x3 → (jfr h 224 r0) ≠ 0 ∧ jin (x1 + x3) (jln h (jfr h 224 r0)) ∧ ((jfr h 181 r0) ≠ 0 ∧ jin x3 (jln h (jfr h 181 r0)) ∧ ∀ h_12 : JH, h_12 = wai h (jfr h 181 r0) (ixn x3) ((Int32.toInt8 (jai h (jfr h 224 r0) (ixn (x1 + x3)))).toInt32) → (K37 r0 x1 (x3 + (1 : Int32)) h_12))))
theorem w_X8_load_37 {D : JD} {d : Nat} {Q : JO → JH → Prop} {K37 : Nat → Int32 → Int32 → JH → Prop} {r0 : Nat} {x1 : Int32} {x3 : Int32} {h : JH} (hK37 : ∀ (r0 : Nat) (x1 : Int32) (x3 : Int32) (h : JH), K37 r0 x1 x3 h → JW D (d + 1) mX8_load 37 [some (vR 41 r0), some (vI x1), none, some (vI x3)] [] h Q) (w : W_X8_load_37 D d Q K37 r0 x1 x3 h) : JW D (d + 1) mX8_load 37 [some (vR 41 r0), some (vI x1), none, some (vI x3)] [] h Q := by
  unfold W_X8_load_37 at w
  refine jw_iload_n (pc' := 38) rfl rfl ?_
  refine jw_aload_n (pc' := 39) rfl rfl ?_
  obtain ⟨g_1, w⟩ := w
  refine jw_getI (pc' := 42) (F := 182) rfl rfl rfl rfl g_1 ?_
  refine jw_icmp_ge (tgt := 65) (pc' := 45) rfl rfl (fun c_2 => ?_) (fun c_2 => ?_)
  · replace w := w.1 c_2
    refine jw_aload_n (pc' := 66) rfl rfl ?_
    refine jw_iconst (pc' := 67) (x := (0 : Int32)) rfl rfl ?_
    refine jw_putI' (pc' := 70) (F := 185) rfl rfl rfl (Or.inr rfl) (Or.inl rfl) rfl (rfl) (rfl) rfl g_1 (fun h_3 e_4 => ?_)
    replace w := w h_3 e_4
    refine jw_aload_n (pc' := 71) rfl rfl ?_
    refine jw_cV (st := []) (sa := [vR 41 r0]) okX8_next rfl rfl rfl rfl rfl rfl (jstp_virtual (sa := []) (st := []) (k := 0) rfl rfl sX8_next okX8_next g_1 (one41.k g_1) rfl rfl) w (fun h_5 _ _ w => ?_)
    exact jw_return rfl rfl w
  · replace w := w.2 c_2
    refine jw_aload_n (pc' := 46) rfl rfl ?_
    refine jw_getR (pc' := 49) (F := 181) (t' := 164) rfl rfl rfl rfl rfl g_1 ?_
    refine jw_iload_n (pc' := 50) rfl rfl ?_
    refine jw_aload_n (pc' := 51) rfl rfl ?_
    refine jw_getR (pc' := 54) (F := 224) (t' := 179) rfl rfl rfl rfl rfl g_1 ?_
    refine jw_iload_n (pc' := 55) rfl rfl ?_
    refine jw_iload_n (pc' := 56) rfl rfl ?_
    refine jw_iadd (pc' := 57) rfl ?_
    obtain ⟨g_8, w⟩ := w
    obtain ⟨g_9, w⟩ := w
    refine jw_bald (pc' := 58) rfl rfl rfl rfl g_8 g_9.ix g_9.2 ?_
    obtain ⟨g_10, w⟩ := w
    obtain ⟨g_11, w⟩ := w
    refine jw_bast' (pc' := 59) rfl rfl rfl rfl rfl g_10 g_11 (fun h_12 e_13 => ?_)
    replace w := w h_12 e_13
    refine jw_iinc (pc' := 62) (y := x3 + (1 : Int32)) (ls' := [some (vR 41 r0), some (vI x1), none, some (vI (x3 + (1 : Int32)))]) rfl (by decide) rfl rfl rfl ?_
    refine jw_goto (pc' := 37) rfl rfl ?_
    exact hK37 _ _ _ _ w
def L_X8_load_37 (D : JD) (d : Nat) (Q : JO → JH → Prop) : Nat → Nat → Int32 → Int32 → JH → Prop
  | 0 => fun _ _ _ _ => False
  | n + 1 => fun r0 x1 x3 h => W_X8_load_37 D d Q (L_X8_load_37 D d Q n) r0 x1 x3 h
theorem l_X8_load_37 {D : JD} {d : Nat} {Q : JO → JH → Prop} : ∀ (n : Nat) (r0 : Nat) (x1 : Int32) (x3 : Int32) (h : JH), L_X8_load_37 D d Q n r0 x1 x3 h → JW D (d + 1) mX8_load 37 [some (vR 41 r0), some (vI x1), none, some (vI x3)] [] h Q := by
  intro n
  induction n with
  | zero => intro _ _ _ _ w; exact w.elim
  | succ n ih => intro _ _ _ h w; exact w_X8_load_37 ih w
def W_X8_load_7 (D : JD) (d : Nat) (Q : JO → JH → Prop) (K7 : Nat → Int32 → JH → Prop) (r0 : Nat) (x1 : Int32) (h : JH) : Prop :=
  r0 ≠ 0 ∧ ((jfr h 181 r0) ≠ 0 ∧ (((jfi h 182 r0) ≤ (nI (jln h (jfr h 181 r0))) → ∃ n, L_X8_load_37 D d Q n r0 x1 (0 : Int32) h) ∧ (¬ (jfi h 182 r0) ≤ (nI (jln h (jfr h 181 r0))) → jsm ((2 : Int32) * (nI (jln h (jfr h 181 r0)))) ∧ ∀ (r_4 : Nat) (h_5 : JH), r_4 = jsz h + 1 → h_5 = nwa h 164 (ixn ((2 : Int32) * (nI (jln h (jfr h 181 r0))))) → (∀ h_9 : JH, h_9 = wfr h_5 181 r0 r_4 → (K7 r0 x1 h_9)))))
theorem w_X8_load_7 {D : JD} {d : Nat} {Q : JO → JH → Prop} {K7 : Nat → Int32 → JH → Prop} {r0 : Nat} {x1 : Int32} {h : JH} (hK7 : ∀ (r0 : Nat) (x1 : Int32) (h : JH), K7 r0 x1 h → JW D (d + 1) mX8_load 7 [some (vR 41 r0), some (vI x1), none, none] [] h Q) (w : W_X8_load_7 D d Q K7 r0 x1 h) : JW D (d + 1) mX8_load 7 [some (vR 41 r0), some (vI x1), none, none] [] h Q := by
  unfold W_X8_load_7 at w
  refine jw_aload_n (pc' := 8) rfl rfl ?_
  obtain ⟨g_1, w⟩ := w
  refine jw_getR (pc' := 11) (F := 181) (t' := 164) rfl rfl rfl rfl rfl g_1 ?_
  obtain ⟨g_2, w⟩ := w
  refine jw_alen (pc' := 12) rfl rfl g_2 ?_
  refine jw_aload_n (pc' := 13) rfl rfl ?_
  refine jw_getI (pc' := 16) (F := 182) rfl rfl rfl rfl g_1 ?_
  refine jw_icmp_ge (tgt := 35) (pc' := 19) rfl rfl (fun c_3 => ?_) (fun c_3 => ?_)
  · replace w := w.1 c_3
    refine jw_iconst (pc' := 36) (x := (0 : Int32)) rfl rfl ?_
    refine jw_istore_n (pc' := 37) (ls' := [some (vR 41 r0), some (vI x1), none, some (vI (0 : Int32))]) rfl (by decide) rfl ?_
    obtain ⟨n, w⟩ := w
    exact l_X8_load_37 n _ _ _ _ w
  · replace w := w.2 c_3
    refine jw_aload_n (pc' := 20) rfl rfl ?_
    refine jw_iconst (pc' := 21) (x := (2 : Int32)) rfl rfl ?_
    refine jw_aload_n (pc' := 22) rfl rfl ?_
    refine jw_getR (pc' := 25) (F := 181) (t' := 164) rfl rfl rfl rfl rfl g_1 ?_
    refine jw_alen (pc' := 26) rfl rfl g_2 ?_
    refine jw_imul (pc' := 27) rfl ?_
    obtain ⟨g_8, w⟩ := w
    refine jw_newa' (pc' := 29) (n := ixn ((2 : Int32) * (nI (jln h (jfr h 181 r0))))) (k := 164) rfl rfl rfl rfl rfl rfl (lw_g (jtb_mem (c := 1) (i := 105) rfl) rfl) g_8.ix g_8.b1 (fun r_4 h_5 e_6 e_7 => ?_)
    replace w := w r_4 h_5 e_6 e_7
    refine jw_putR' (pc' := 32) (F := 181) rfl rfl rfl (Or.inr rfl) (Or.inl rfl) rfl rfl rfl g_1 (fun h_9 e_10 => ?_)
    replace w := w h_9 e_10
    refine jw_goto (pc' := 7) rfl rfl ?_
    exact hK7 _ _ _ w
def L_X8_load_7 (D : JD) (d : Nat) (Q : JO → JH → Prop) : Nat → Nat → Int32 → JH → Prop
  | 0 => fun _ _ _ => False
  | n + 1 => fun r0 x1 h => W_X8_load_7 D d Q (L_X8_load_7 D d Q n) r0 x1 h
theorem l_X8_load_7 {D : JD} {d : Nat} {Q : JO → JH → Prop} : ∀ (n : Nat) (r0 : Nat) (x1 : Int32) (h : JH), L_X8_load_7 D d Q n r0 x1 h → JW D (d + 1) mX8_load 7 [some (vR 41 r0), some (vI x1), none, none] [] h Q := by
  intro n
  induction n with
  | zero => intro _ _ _ w; exact w.elim
  | succ n ih => intro _ _ h w; exact w_X8_load_7 ih w
def W_X8_load_0 (D : JD) (d : Nat) (Q : JO → JH → Prop) (r0 : Nat) (x1 : Int32) (x2 : Int32) (h : JH) : Prop :=
  r0 ≠ 0 ∧ ∀ h_2 : JH, h_2 = wfi h 182 r0 (x2 - x1) → (∃ n, L_X8_load_7 D d Q n r0 x1 h_2)
theorem w_X8_load_0 {D : JD} {d : Nat} {Q : JO → JH → Prop} {r0 : Nat} {x1 : Int32} {x2 : Int32} {h : JH} (w : W_X8_load_0 D d Q r0 x1 x2 h) : JW D (d + 1) mX8_load 0 [some (vR 41 r0), some (vI x1), some (vI x2), none] [] h Q := by
  unfold W_X8_load_0 at w
  refine jw_aload_n (pc' := 1) rfl rfl ?_
  refine jw_iload_n (pc' := 2) rfl rfl ?_
  refine jw_iload_n (pc' := 3) rfl rfl ?_
  refine jw_isub (pc' := 4) rfl ?_
  obtain ⟨g_1, w⟩ := w
  refine jw_putI' (pc' := 7) (F := 182) rfl rfl rfl (Or.inr rfl) (Or.inl rfl) rfl (rfl) (rfl) rfl g_1 (fun h_2 e_3 => ?_)
  replace w := w h_2 e_3
  refine jw_gen (ls' := [some (vR 41 r0), some (vI x1), none, none]) (st' := []) (And.intro (Or.inl rfl) (And.intro (Or.inl rfl) (trivial))) (trivial) ?_
  obtain ⟨n, w⟩ := w
  exact l_X8_load_7 n _ _ _ w
def T_X8_load (D : JD) (d : Nat) (Q : JO → JH → Prop) (r0 : Nat) (x1 : Int32) (x2 : Int32) (h : JH) : Prop := W_X8_load_0 D d Q r0 x1 x2 h
theorem t_X8_load {D : JD} {d : Nat} {Q : JO → JH → Prop} {r0 : Nat} {x1 : Int32} {x2 : Int32} {h : JH} (w : T_X8_load D d Q r0 x1 x2 h) : cX8_load D (d + 1) r0 x1 x2 h Q := by
  unfold T_X8_load at w
  unfold cX8_load
  exact w_X8_load_0 w
def W_X8_next_424 (D : JD) (d : Nat) (Q : JO → JH → Prop) (h : JH) : Prop :=
  Q (.inl none) h
theorem w_X8_next_424 {D : JD} {d : Nat} {Q : JO → JH → Prop} {h : JH} (w : W_X8_next_424 D d Q h) : JW D (d + 1) mX8_next 424 [none, none, none, none] [] h Q := by
  unfold W_X8_next_424 at w
  exact jw_return rfl rfl w
def W_X8_next_421 (D : JD) (d : Nat) (Q : JO → JH → Prop) (q0 : Nat) (s1 : Int32) (h : JH) : Prop :=
  q0 ≠ 0 ∧ ∀ h_2 : JH, h_2 = wfi h 183 q0 s1 → (W_X8_next_424 D d Q h_2)
theorem w_X8_next_421 {D : JD} {d : Nat} {Q : JO → JH → Prop} {q0 : Nat} {s1 : Int32} {h : JH} (w : W_X8_next_421 D d Q q0 s1 h) : JW D (d + 1) mX8_next 421 [none, none, none, none] [vI s1, vR 41 q0] h Q := by
  unfold W_X8_next_421 at w
  obtain ⟨g_1, w⟩ := w
  refine jw_putI' (pc' := 424) (F := 183) rfl rfl rfl (Or.inr rfl) (Or.inl rfl) rfl (rfl) (rfl) rfl g_1 (fun h_2 e_3 => ?_)
  replace w := w h_2 e_3
  exact w_X8_next_424 w
def W_X8_next_414 (D : JD) (d : Nat) (Q : JO → JH → Prop) (q0 : Nat) (h : JH) : Prop :=
  W_X8_next_421 D d Q q0 (6 : Int32) h
theorem w_X8_next_414 {D : JD} {d : Nat} {Q : JO → JH → Prop} {q0 : Nat} {h : JH} (w : W_X8_next_414 D d Q q0 h) : JW D (d + 1) mX8_next 414 [none, none, none, none] [vR 41 q0] h Q := by
  unfold W_X8_next_414 at w
  refine jw_bipush (pc' := 416) (x := (6 : Int32)) rfl rfl ?_
  refine jw_goto (pc' := 421) rfl rfl ?_
  exact w_X8_next_421 w
def W_X8_next_397 (D : JD) (d : Nat) (Q : JO → JH → Prop) (r0 : Nat) (x2 : Int32) (x3 : Int32) (q0 : Nat) (s1 : Int32) (h : JH) : Prop :=
  q0 ≠ 0 ∧ ∀ h_2 : JH, h_2 = wfi h 185 q0 s1 → ((¬ x3 = 0 → W_X8_next_414 D d Q r0 h_2) ∧ (x3 = 0 → (jcs D 234) ≠ 0 ∧ (cJ5_indexOf_2 D d (jcs D 234) x2 h_2 (pI D h_2 (fun v_8 h_6 => (v_8 < 0 → W_X8_next_421 D d Q r0 (7 : Int32) h_6) ∧ (¬ v_8 < 0 → W_X8_next_414 D d Q r0 h_6)) (jth Q)))))
theorem w_X8_next_397 {D : JD} {d : Nat} {Q : JO → JH → Prop} {r0 : Nat} {x2 : Int32} {x3 : Int32} {q0 : Nat} {s1 : Int32} {h : JH} (w : W_X8_next_397 D d Q r0 x2 x3 q0 s1 h) : JW D (d + 1) mX8_next 397 [some (vR 41 r0), none, some (vI x2), some (vI x3)] [vI s1, vR 41 q0] h Q := by
  unfold W_X8_next_397 at w
  obtain ⟨g_1, w⟩ := w
  refine jw_putI' (pc' := 400) (F := 185) rfl rfl rfl (Or.inr rfl) (Or.inl rfl) rfl (rfl) (rfl) rfl g_1 (fun h_2 e_3 => ?_)
  replace w := w h_2 e_3
  refine jw_aload_n (pc' := 401) rfl rfl ?_
  refine jw_iload_n (pc' := 402) rfl rfl ?_
  refine jw_if_ne (tgt := 414) (pc' := 405) rfl rfl (fun c_4 => ?_) (fun c_4 => ?_)
  · replace w := w.1 c_4
    refine jw_gen (ls' := [none, none, none, none]) (st' := [vR 41 r0]) (trivial) (And.intro (Or.inl rfl) (trivial)) ?_
    exact w_X8_next_414 w
  · replace w := w.2 c_4
    refine jw_ldcS (pc' := 407) rfl rfl rfl rfl ?_
    refine jw_iload_n (pc' := 408) rfl rfl ?_
    obtain ⟨g_5, w⟩ := w
    refine jw_cI (st := [vR 41 r0]) (sa := [vR 51 (jcs D 234), vI x2]) okJ5_indexOf_2 rfl rfl rfl rfl rfl rfl (jstp_virtual (sa := [vI x2]) (st := [vR 41 r0]) (k := 0) rfl rfl sJ5_indexOf_2 okJ5_indexOf_2 g_5 (one51.k g_5) rfl rfl) w (fun v_8 h_6 _ _ w => ?_)
    refine jw_if_lt (tgt := 419) (pc' := 414) rfl rfl (fun c_9 => ?_) (fun c_9 => ?_)
    · replace w := w.1 c_9
      refine jw_bipush (pc' := 421) (x := (7 : Int32)) rfl rfl ?_
      refine jw_gen (ls' := [none, none, none, none]) (st' := [vI (7 : Int32), vR 41 r0]) (trivial) (And.intro (Or.inl rfl) (And.intro (Or.inl rfl) (trivial))) ?_
      exact w_X8_next_421 w
    · replace w := w.2 c_9
      refine jw_gen (ls' := [none, none, none, none]) (st' := [vR 41 r0]) (trivial) (And.intro (Or.inl rfl) (trivial)) ?_
      exact w_X8_next_414 w
def W_X8_next_382 (D : JD) (d : Nat) (Q : JO → JH → Prop) (r0 : Nat) (x1 : Int32) (x2 : Int32) (s0 : Int32) (h : JH) : Prop :=
  (s0 = 0 → W_X8_next_397 D d Q r0 x2 s0 r0 (x1 + (1 : Int32)) h) ∧ (¬ s0 = 0 → W_X8_next_397 D d Q r0 x2 s0 r0 (x1 + (2 : Int32)) h)
theorem w_X8_next_382 {D : JD} {d : Nat} {Q : JO → JH → Prop} {r0 : Nat} {x1 : Int32} {x2 : Int32} {s0 : Int32} {h : JH} (w : W_X8_next_382 D d Q r0 x1 x2 s0 h) : JW D (d + 1) mX8_next 382 [some (vR 41 r0), some (vI x1), some (vI x2), none] [vI s0] h Q := by
  unfold W_X8_next_382 at w
  refine jw_istore_n (pc' := 383) (ls' := [some (vR 41 r0), some (vI x1), some (vI x2), some (vI s0)]) rfl (by decide) rfl ?_
  refine jw_aload_n (pc' := 384) rfl rfl ?_
  refine jw_iload_n (pc' := 385) rfl rfl ?_
  refine jw_if_eq (tgt := 394) (pc' := 388) rfl rfl (fun c_1 => ?_) (fun c_1 => ?_)
  · replace w := w.1 c_1
    refine jw_iload_n (pc' := 395) rfl rfl ?_
    refine jw_iconst (pc' := 396) (x := (1 : Int32)) rfl rfl ?_
    refine jw_iadd (pc' := 397) rfl ?_
    refine jw_gen (ls' := [some (vR 41 r0), none, some (vI x2), some (vI s0)]) (st' := [vI (x1 + (1 : Int32)), vR 41 r0]) (And.intro (Or.inl rfl) (And.intro (Or.inl rfl) (And.intro (Or.inl rfl) (trivial)))) (And.intro (Or.inl rfl) (And.intro (Or.inl rfl) (trivial))) ?_
    exact w_X8_next_397 w
  · replace w := w.2 c_1
    refine jw_iload_n (pc' := 389) rfl rfl ?_
    refine jw_iconst (pc' := 390) (x := (2 : Int32)) rfl rfl ?_
    refine jw_iadd (pc' := 391) rfl ?_
    refine jw_goto (pc' := 397) rfl rfl ?_
    refine jw_gen (ls' := [some (vR 41 r0), none, some (vI x2), some (vI s0)]) (st' := [vI (x1 + (2 : Int32)), vR 41 r0]) (And.intro (Or.inl rfl) (And.intro (Or.inl rfl) (And.intro (Or.inl rfl) (trivial)))) (And.intro (Or.inl rfl) (And.intro (Or.inl rfl) (trivial))) ?_
    exact w_X8_next_397 w
def W_X8_next_381 (D : JD) (d : Nat) (Q : JO → JH → Prop) (r0 : Nat) (x1 : Int32) (x2 : Int32) (h : JH) : Prop :=
  W_X8_next_382 D d Q r0 x1 x2 (0 : Int32) h
theorem w_X8_next_381 {D : JD} {d : Nat} {Q : JO → JH → Prop} {r0 : Nat} {x1 : Int32} {x2 : Int32} {h : JH} (w : W_X8_next_381 D d Q r0 x1 x2 h) : JW D (d + 1) mX8_next 381 [some (vR 41 r0), some (vI x1), some (vI x2), none] [] h Q := by
  unfold W_X8_next_381 at w
  refine jw_iconst (pc' := 382) (x := (0 : Int32)) rfl rfl ?_
  exact w_X8_next_382 w
def W_X8_next_377 (D : JD) (d : Nat) (Q : JO → JH → Prop) (r0 : Nat) (x1 : Int32) (x2 : Int32) (h : JH) : Prop :=
  W_X8_next_382 D d Q r0 x1 x2 (1 : Int32) h
theorem w_X8_next_377 {D : JD} {d : Nat} {Q : JO → JH → Prop} {r0 : Nat} {x1 : Int32} {x2 : Int32} {h : JH} (w : W_X8_next_377 D d Q r0 x1 x2 h) : JW D (d + 1) mX8_next 377 [some (vR 41 r0), some (vI x1), some (vI x2), none] [] h Q := by
  unfold W_X8_next_377 at w
  refine jw_iconst (pc' := 378) (x := (1 : Int32)) rfl rfl ?_
  refine jw_goto (pc' := 382) rfl rfl ?_
  exact w_X8_next_382 w
def W_X8_next_359 (D : JD) (d : Nat) (Q : JO → JH → Prop) (r0 : Nat) (x1 : Int32) (x2 : Int32) (h : JH) : Prop :=
  (¬ x2 = (124 : Int32) → W_X8_next_381 D d Q r0 x1 x2 h) ∧ (x2 = (124 : Int32) → r0 ≠ 0 ∧ (cX8_at D d r0 (x1 + (1 : Int32)) h (pI D h (fun v_5 h_3 => (¬ v_5 = (124 : Int32) → W_X8_next_381 D d Q r0 x1 x2 h_3) ∧ (v_5 = (124 : Int32) → W_X8_next_377 D d Q r0 x1 x2 h_3)) (jth Q))))
theorem w_X8_next_359 {D : JD} {d : Nat} {Q : JO → JH → Prop} {r0 : Nat} {x1 : Int32} {x2 : Int32} {h : JH} (w : W_X8_next_359 D d Q r0 x1 x2 h) : JW D (d + 1) mX8_next 359 [some (vR 41 r0), some (vI x1), some (vI x2), none] [] h Q := by
  unfold W_X8_next_359 at w
  refine jw_iload_n (pc' := 360) rfl rfl ?_
  refine jw_bipush (pc' := 362) (x := (124 : Int32)) rfl rfl ?_
  refine jw_icmp_ne (tgt := 381) (pc' := 365) rfl rfl (fun c_1 => ?_) (fun c_1 => ?_)
  · replace w := w.1 c_1
    exact w_X8_next_381 w
  · replace w := w.2 c_1
    refine jw_aload_n (pc' := 366) rfl rfl ?_
    refine jw_iload_n (pc' := 367) rfl rfl ?_
    refine jw_iconst (pc' := 368) (x := (1 : Int32)) rfl rfl ?_
    refine jw_iadd (pc' := 369) rfl ?_
    obtain ⟨g_2, w⟩ := w
    refine jw_cI (st := []) (sa := [vR 41 r0, vI (x1 + (1 : Int32))]) okX8_at rfl rfl rfl rfl rfl rfl (jstp_virtual (sa := [vI (x1 + (1 : Int32))]) (st := []) (k := 0) rfl rfl sX8_at okX8_at g_2 (one41.k g_2) rfl rfl) w (fun v_5 h_3 _ _ w => ?_)
    refine jw_bipush (pc' := 374) (x := (124 : Int32)) rfl rfl ?_
    refine jw_icmp_ne (tgt := 381) (pc' := 377) rfl rfl (fun c_6 => ?_) (fun c_6 => ?_)
    · replace w := w.1 c_6
      exact w_X8_next_381 w
    · replace w := w.2 c_6
      exact w_X8_next_377 w
def W_X8_next_341 (D : JD) (d : Nat) (Q : JO → JH → Prop) (r0 : Nat) (x1 : Int32) (x2 : Int32) (h : JH) : Prop :=
  (¬ x2 = (62 : Int32) → W_X8_next_359 D d Q r0 x1 x2 h) ∧ (x2 = (62 : Int32) → r0 ≠ 0 ∧ (cX8_at D d r0 (x1 + (1 : Int32)) h (pI D h (fun v_5 h_3 => (v_5 = (61 : Int32) → W_X8_next_377 D d Q r0 x1 x2 h_3) ∧ (¬ v_5 = (61 : Int32) → W_X8_next_359 D d Q r0 x1 x2 h_3)) (jth Q))))
theorem w_X8_next_341 {D : JD} {d : Nat} {Q : JO → JH → Prop} {r0 : Nat} {x1 : Int32} {x2 : Int32} {h : JH} (w : W_X8_next_341 D d Q r0 x1 x2 h) : JW D (d + 1) mX8_next 341 [some (vR 41 r0), some (vI x1), some (vI x2), none] [] h Q := by
  unfold W_X8_next_341 at w
  refine jw_iload_n (pc' := 342) rfl rfl ?_
  refine jw_bipush (pc' := 344) (x := (62 : Int32)) rfl rfl ?_
  refine jw_icmp_ne (tgt := 359) (pc' := 347) rfl rfl (fun c_1 => ?_) (fun c_1 => ?_)
  · replace w := w.1 c_1
    exact w_X8_next_359 w
  · replace w := w.2 c_1
    refine jw_aload_n (pc' := 348) rfl rfl ?_
    refine jw_iload_n (pc' := 349) rfl rfl ?_
    refine jw_iconst (pc' := 350) (x := (1 : Int32)) rfl rfl ?_
    refine jw_iadd (pc' := 351) rfl ?_
    obtain ⟨g_2, w⟩ := w
    refine jw_cI (st := []) (sa := [vR 41 r0, vI (x1 + (1 : Int32))]) okX8_at rfl rfl rfl rfl rfl rfl (jstp_virtual (sa := [vI (x1 + (1 : Int32))]) (st := []) (k := 0) rfl rfl sX8_at okX8_at g_2 (one41.k g_2) rfl rfl) w (fun v_5 h_3 _ _ w => ?_)
    refine jw_bipush (pc' := 356) (x := (61 : Int32)) rfl rfl ?_
    refine jw_icmp_eq (tgt := 377) (pc' := 359) rfl rfl (fun c_6 => ?_) (fun c_6 => ?_)
    · replace w := w.1 c_6
      exact w_X8_next_377 w
    · replace w := w.2 c_6
      exact w_X8_next_359 w
def W_X8_next_283 (D : JD) (d : Nat) (Q : JO → JH → Prop) (r0 : Nat) (x1 : Int32) (q0 : Nat) (s1 : Int32) (h : JH) : Prop :=
  q0 ≠ 0 ∧ ∀ h_2 : JH, h_2 = wfi h 183 q0 s1 → (r0 ≠ 0 ∧ (cX8_at D d r0 (x1 + (1 : Int32)) h_2 (pI D h_2 (fun v_7 h_5 => ∀ h_8 : JH, h_8 = wfl h_5 187 r0 (Int32.toInt64 (v_7 - (48 : Int32))) → (∀ h_10 : JH, h_10 = wfi h_8 185 r0 (x1 + (2 : Int32)) → (W_X8_next_424 D d Q h_10))) (jth Q))))
theorem w_X8_next_283 {D : JD} {d : Nat} {Q : JO → JH → Prop} {r0 : Nat} {x1 : Int32} {q0 : Nat} {s1 : Int32} {h : JH} (w : W_X8_next_283 D d Q r0 x1 q0 s1 h) : JW D (d + 1) mX8_next 283 [some (vR 41 r0), some (vI x1), none, none] [vI s1, vR 41 q0] h Q := by
  unfold W_X8_next_283 at w
  obtain ⟨g_1, w⟩ := w
  refine jw_putI' (pc' := 286) (F := 183) rfl rfl rfl (Or.inr rfl) (Or.inl rfl) rfl (rfl) (rfl) rfl g_1 (fun h_2 e_3 => ?_)
  replace w := w h_2 e_3
  refine jw_aload_n (pc' := 287) rfl rfl ?_
  refine jw_aload_n (pc' := 288) rfl rfl ?_
  refine jw_iload_n (pc' := 289) rfl rfl ?_
  refine jw_iconst (pc' := 290) (x := (1 : Int32)) rfl rfl ?_
  refine jw_iadd (pc' := 291) rfl ?_
  obtain ⟨g_4, w⟩ := w
  refine jw_cI (st := [vR 41 r0]) (sa := [vR 41 r0, vI (x1 + (1 : Int32))]) okX8_at rfl rfl rfl rfl rfl rfl (jstp_virtual (sa := [vI (x1 + (1 : Int32))]) (st := [vR 41 r0]) (k := 0) rfl rfl sX8_at okX8_at g_4 (one41.k g_4) rfl rfl) w (fun v_7 h_5 _ _ w => ?_)
  refine jw_bipush (pc' := 296) (x := (48 : Int32)) rfl rfl ?_
  refine jw_isub (pc' := 297) rfl ?_
  refine jw_i2l (pc' := 298) rfl ?_
  refine jw_putL' (pc' := 301) (F := 187) rfl rfl rfl (Or.inr rfl) (Or.inl rfl) rfl rfl rfl g_4 (fun h_8 e_9 => ?_)
  replace w := w h_8 e_9
  refine jw_aload_n (pc' := 302) rfl rfl ?_
  refine jw_iload_n (pc' := 303) rfl rfl ?_
  refine jw_iconst (pc' := 304) (x := (2 : Int32)) rfl rfl ?_
  refine jw_iadd (pc' := 305) rfl ?_
  refine jw_putI' (pc' := 308) (F := 185) rfl rfl rfl (Or.inr rfl) (Or.inl rfl) rfl (rfl) (rfl) rfl g_4 (fun h_10 e_11 => ?_)
  replace w := w h_10 e_11
  refine jw_goto (pc' := 424) rfl rfl ?_
  refine jw_gen (ls' := [none, none, none, none]) (st' := []) (trivial) (trivial) ?_
  exact w_X8_next_424 w
def W_X8_next_281 (D : JD) (d : Nat) (Q : JO → JH → Prop) (r0 : Nat) (x1 : Int32) (q0 : Nat) (h : JH) : Prop :=
  W_X8_next_283 D d Q r0 x1 q0 (7 : Int32) h
theorem w_X8_next_281 {D : JD} {d : Nat} {Q : JO → JH → Prop} {r0 : Nat} {x1 : Int32} {q0 : Nat} {h : JH} (w : W_X8_next_281 D d Q r0 x1 q0 h) : JW D (d + 1) mX8_next 281 [some (vR 41 r0), some (vI x1), none, none] [vR 41 q0] h Q := by
  unfold W_X8_next_281 at w
  refine jw_bipush (pc' := 283) (x := (7 : Int32)) rfl rfl ?_
  exact w_X8_next_283 w
def W_X8_next_227 (D : JD) (d : Nat) (Q : JO → JH → Prop) (q0 : Nat) (s1 : Int32) (h : JH) : Prop :=
  q0 ≠ 0 ∧ ∀ h_2 : JH, h_2 = wfi h 183 q0 s1 → (W_X8_next_424 D d Q h_2)
theorem w_X8_next_227 {D : JD} {d : Nat} {Q : JO → JH → Prop} {q0 : Nat} {s1 : Int32} {h : JH} (w : W_X8_next_227 D d Q q0 s1 h) : JW D (d + 1) mX8_next 227 [none, none, none, none] [vI s1, vR 41 q0] h Q := by
  unfold W_X8_next_227 at w
  obtain ⟨g_1, w⟩ := w
  refine jw_putI' (pc' := 230) (F := 183) rfl rfl rfl (Or.inr rfl) (Or.inl rfl) rfl (rfl) (rfl) rfl g_1 (fun h_2 e_3 => ?_)
  replace w := w h_2 e_3
  refine jw_goto (pc' := 424) rfl rfl ?_
  exact w_X8_next_424 w
def W_X8_next_196 (D : JD) (d : Nat) (Q : JO → JH → Prop) (K145 : Nat → JH → Prop) (r0 : Nat) (h : JH) : Prop :=
  r0 ≠ 0 ∧ (∀ h_2 : JH, h_2 = wfi h 185 r0 ((jfi h 185 r0) + (1 : Int32)) → (K145 r0 h_2))
theorem w_X8_next_196 {D : JD} {d : Nat} {Q : JO → JH → Prop} {K145 : Nat → JH → Prop} {r0 : Nat} {h : JH} (hK145 : ∀ (r0 : Nat) (h : JH), K145 r0 h → JW D (d + 1) mX8_next 145 [some (vR 41 r0), none, none, none] [] h Q) (w : W_X8_next_196 D d Q K145 r0 h) : JW D (d + 1) mX8_next 196 [some (vR 41 r0), none, none, none] [] h Q := by
  unfold W_X8_next_196 at w
  refine jw_aload_n (pc' := 197) rfl rfl ?_
  refine jw_dup (pc' := 198) rfl rfl ?_
  obtain ⟨g_1, w⟩ := w
  refine jw_getI (pc' := 201) (F := 185) rfl rfl rfl rfl g_1 ?_
  refine jw_iconst (pc' := 202) (x := (1 : Int32)) rfl rfl ?_
  refine jw_iadd (pc' := 203) rfl ?_
  refine jw_putI' (pc' := 206) (F := 185) rfl rfl rfl (Or.inr rfl) (Or.inl rfl) rfl (rfl) (rfl) rfl g_1 (fun h_2 e_3 => ?_)
  replace w := w h_2 e_3
  refine jw_goto (pc' := 145) rfl rfl ?_
  exact hK145 _ _ w
def W_X8_next_145 (D : JD) (d : Nat) (Q : JO → JH → Prop) (K145 : Nat → JH → Prop) (r0 : Nat) (h : JH) : Prop :=
  r0 ≠ 0 ∧ (cX8_at D d r0 (jfi h 185 r0) h (pI D h (fun v_4 h_2 => cX8_digit D d v_4 h_2 (pI D h_2 (fun v_7 h_5 => (v_7 = 0 → ((lg_cmp (jfl h_5 187 r0) (9007199254740991 : Int64)) ≤ 0 → W_X8_next_227 D d Q r0 (3 : Int32) h_5) ∧ (¬ (lg_cmp (jfl h_5 187 r0) (9007199254740991 : Int64)) ≤ 0 → W_X8_next_227 D d Q r0 (7 : Int32) h_5)) ∧ (¬ v_7 = 0 → (0 < (lg_cmp (jfl h_5 187 r0) (9007199254740991 : Int64)) → W_X8_next_196 D d Q K145 r0 h_5) ∧ (¬ 0 < (lg_cmp (jfl h_5 187 r0) (9007199254740991 : Int64)) → cX8_at D d r0 (jfi h_5 185 r0) h_5 (pI D h_5 (fun v_13 h_11 => ∀ h_14 : JH, h_14 = wfl h_11 187 r0 ((((10 : Int64) * (jfl h_5 187 r0)) + (Int32.toInt64 v_13)) - (48 : Int64)) → (W_X8_next_196 D d Q K145 r0 h_14)) (jth Q))))) (jth Q))) (jth Q)))
theorem w_X8_next_145 {D : JD} {d : Nat} {Q : JO → JH → Prop} {K145 : Nat → JH → Prop} {r0 : Nat} {h : JH} (hK145 : ∀ (r0 : Nat) (h : JH), K145 r0 h → JW D (d + 1) mX8_next 145 [some (vR 41 r0), none, none, none] [] h Q) (w : W_X8_next_145 D d Q K145 r0 h) : JW D (d + 1) mX8_next 145 [some (vR 41 r0), none, none, none] [] h Q := by
  unfold W_X8_next_145 at w
  refine jw_aload_n (pc' := 146) rfl rfl ?_
  refine jw_aload_n (pc' := 147) rfl rfl ?_
  obtain ⟨g_1, w⟩ := w
  refine jw_getI (pc' := 150) (F := 185) rfl rfl rfl rfl g_1 ?_
  refine jw_cI (st := []) (sa := [vR 41 r0, vI (jfi h 185 r0)]) okX8_at rfl rfl rfl rfl rfl rfl (jstp_virtual (sa := [vI (jfi h 185 r0)]) (st := []) (k := 0) rfl rfl sX8_at okX8_at g_1 (one41.k g_1) rfl rfl) w (fun v_4 h_2 _ _ w => ?_)
  refine jw_cI (st := []) (sa := [vI v_4]) okX8_digit rfl rfl rfl rfl rfl rfl (jstp_static (sa := [vI v_4]) (st := []) rfl rfl sX8_digit okX8_digit rfl rfl) w (fun v_7 h_5 _ _ w => ?_)
  refine jw_if_eq (tgt := 209) (pc' := 159) rfl rfl (fun c_8 => ?_) (fun c_8 => ?_)
  · replace w := w.1 c_8
    refine jw_aload_n (pc' := 210) rfl rfl ?_
    refine jw_aload_n (pc' := 211) rfl rfl ?_
    refine jw_getL (pc' := 214) (F := 187) rfl rfl rfl rfl g_1 ?_
    refine jw_ldc2 (pc' := 217) (v := (9007199254740991 : Int64)) rfl rfl ?_
    refine jw_lcmp (pc' := 218) rfl ?_
    refine jw_if_le (tgt := 226) (pc' := 221) rfl rfl (fun c_9 => ?_) (fun c_9 => ?_)
    · replace w := w.1 c_9
      refine jw_iconst (pc' := 227) (x := (3 : Int32)) rfl rfl ?_
      refine jw_gen (ls' := [none, none, none, none]) (st' := [vI (3 : Int32), vR 41 r0]) (trivial) (And.intro (Or.inl rfl) (And.intro (Or.inl rfl) (trivial))) ?_
      exact w_X8_next_227 w
    · replace w := w.2 c_9
      refine jw_bipush (pc' := 223) (x := (7 : Int32)) rfl rfl ?_
      refine jw_goto (pc' := 227) rfl rfl ?_
      refine jw_gen (ls' := [none, none, none, none]) (st' := [vI (7 : Int32), vR 41 r0]) (trivial) (And.intro (Or.inl rfl) (And.intro (Or.inl rfl) (trivial))) ?_
      exact w_X8_next_227 w
  · replace w := w.2 c_8
    refine jw_aload_n (pc' := 160) rfl rfl ?_
    refine jw_getL (pc' := 163) (F := 187) rfl rfl rfl rfl g_1 ?_
    refine jw_ldc2 (pc' := 166) (v := (9007199254740991 : Int64)) rfl rfl ?_
    refine jw_lcmp (pc' := 167) rfl ?_
    refine jw_if_gt (tgt := 196) (pc' := 170) rfl rfl (fun c_10 => ?_) (fun c_10 => ?_)
    · replace w := w.1 c_10
      exact w_X8_next_196 hK145 w
    · replace w := w.2 c_10
      refine jw_aload_n (pc' := 171) rfl rfl ?_
      refine jw_ldc2 (pc' := 174) (v := (10 : Int64)) rfl rfl ?_
      refine jw_aload_n (pc' := 175) rfl rfl ?_
      refine jw_getL (pc' := 178) (F := 187) rfl rfl rfl rfl g_1 ?_
      refine jw_lmul (pc' := 179) rfl ?_
      refine jw_aload_n (pc' := 180) rfl rfl ?_
      refine jw_aload_n (pc' := 181) rfl rfl ?_
      refine jw_getI (pc' := 184) (F := 185) rfl rfl rfl rfl g_1 ?_
      refine jw_cI (st := [vL ((10 : Int64) * (jfl h_5 187 r0)), vR 41 r0]) (sa := [vR 41 r0, vI (jfi h_5 185 r0)]) okX8_at rfl rfl rfl rfl rfl rfl (jstp_virtual (sa := [vI (jfi h_5 185 r0)]) (st := [vL ((10 : Int64) * (jfl h_5 187 r0)), vR 41 r0]) (k := 0) rfl rfl sX8_at okX8_at g_1 (one41.k g_1) rfl rfl) w (fun v_13 h_11 _ _ w => ?_)
      refine jw_i2l (pc' := 188) rfl ?_
      refine jw_ladd (pc' := 189) rfl ?_
      refine jw_ldc2 (pc' := 192) (v := (48 : Int64)) rfl rfl ?_
      refine jw_lsub (pc' := 193) rfl ?_
      refine jw_putL' (pc' := 196) (F := 187) rfl rfl rfl (Or.inr rfl) (Or.inl rfl) rfl rfl rfl g_1 (fun h_14 e_15 => ?_)
      replace w := w h_14 e_15
      exact w_X8_next_196 hK145 w
def L_X8_next_145 (D : JD) (d : Nat) (Q : JO → JH → Prop) : Nat → Nat → JH → Prop
  | 0 => fun _ _ => False
  | n + 1 => fun r0 h => W_X8_next_145 D d Q (L_X8_next_145 D d Q n) r0 h
theorem l_X8_next_145 {D : JD} {d : Nat} {Q : JO → JH → Prop} : ∀ (n : Nat) (r0 : Nat) (h : JH), L_X8_next_145 D d Q n r0 h → JW D (d + 1) mX8_next 145 [some (vR 41 r0), none, none, none] [] h Q := by
  intro n
  induction n with
  | zero => intro _ _ w; exact w.elim
  | succ n ih => intro _ h w; exact w_X8_next_145 ih w
def W_X8_next_91 (D : JD) (d : Nat) (Q : JO → JH → Prop) (r0 : Nat) (x1 : Int32) (h : JH) : Prop :=
  r0 ≠ 0 ∧ ∀ h_2 : JH, h_2 = wfi h 184 r0 x1 → (∀ h_4 : JH, h_4 = wfi h_2 185 r0 x1 → (cX8_at D d r0 x1 h_4 (pI D h_4 (fun v_8 h_6 => (0 ≤ v_8 → cX8_letter D d v_8 h_6 (pI D h_6 (fun v_12 h_10 => (v_12 = 0 → cX8_digit D d v_8 h_10 (pI D h_10 (fun v_16 h_14 => (v_16 = 0 → (¬ v_8 = (39 : Int32) → (¬ v_8 = (36 : Int32) → (¬ v_8 = (60 : Int32) → W_X8_next_341 D d Q r0 x1 v_8 h_14) ∧ (v_8 = (60 : Int32) → cX8_at D d r0 (x1 + (1 : Int32)) h_14 (pI D h_14 (fun v_23 h_21 => (v_23 = (62 : Int32) → W_X8_next_377 D d Q r0 x1 v_8 h_21) ∧ (¬ v_23 = (62 : Int32) → cX8_at D d r0 (x1 + (1 : Int32)) h_21 (pI D h_21 (fun v_27 h_25 => (v_27 = (61 : Int32) → W_X8_next_377 D d Q r0 x1 v_8 h_25) ∧ (¬ v_27 = (61 : Int32) → W_X8_next_341 D d Q r0 x1 v_8 h_25)) (jth Q)))) (jth Q)))) ∧ (v_8 = (36 : Int32) → cX8_at D d r0 (x1 + (1 : Int32)) h_14 (pI D h_14 (fun v_31 h_29 => (v_31 < (49 : Int32) → W_X8_next_281 D d Q r0 x1 r0 h_29) ∧ (¬ v_31 < (49 : Int32) → cX8_at D d r0 (x1 + (1 : Int32)) h_29 (pI D h_29 (fun v_35 h_33 => ((56 : Int32) < v_35 → W_X8_next_281 D d Q r0 x1 r0 h_33) ∧ (¬ (56 : Int32) < v_35 → W_X8_next_283 D d Q r0 x1 r0 (5 : Int32) h_33)) (jth Q)))) (jth Q)))) ∧ (v_8 = (39 : Int32) → cX8_quoted D d r0 h_14 (pV D h_14 (fun h_37 => W_X8_next_424 D d Q h_37) (jth Q)))) ∧ (¬ v_16 = 0 → ∀ h_40 : JH, h_40 = wfl h_14 187 r0 (0 : Int64) → (∃ n, L_X8_next_145 D d Q n r0 h_40))) (jth Q))) ∧ (¬ v_12 = 0 → cX8_wordy D d r0 h_10 (pV D h_10 (fun h_42 => W_X8_next_424 D d Q h_42) (jth Q)))) (jth Q))) ∧ (¬ 0 ≤ v_8 → ∀ h_45 : JH, h_45 = wfi h_6 183 r0 (0 : Int32) → (W_X8_next_424 D d Q h_45))) (jth Q))))
theorem w_X8_next_91 {D : JD} {d : Nat} {Q : JO → JH → Prop} {r0 : Nat} {x1 : Int32} {h : JH} (w : W_X8_next_91 D d Q r0 x1 h) : JW D (d + 1) mX8_next 91 [some (vR 41 r0), some (vI x1), none, none] [] h Q := by
  unfold W_X8_next_91 at w
  refine jw_aload_n (pc' := 92) rfl rfl ?_
  refine jw_iload_n (pc' := 93) rfl rfl ?_
  obtain ⟨g_1, w⟩ := w
  refine jw_putI' (pc' := 96) (F := 184) rfl rfl rfl (Or.inr rfl) (Or.inl rfl) rfl (rfl) (rfl) rfl g_1 (fun h_2 e_3 => ?_)
  replace w := w h_2 e_3
  refine jw_aload_n (pc' := 97) rfl rfl ?_
  refine jw_iload_n (pc' := 98) rfl rfl ?_
  refine jw_putI' (pc' := 101) (F := 185) rfl rfl rfl (Or.inr rfl) (Or.inl rfl) rfl (rfl) (rfl) rfl g_1 (fun h_4 e_5 => ?_)
  replace w := w h_4 e_5
  refine jw_aload_n (pc' := 102) rfl rfl ?_
  refine jw_iload_n (pc' := 103) rfl rfl ?_
  refine jw_cI (st := []) (sa := [vR 41 r0, vI x1]) okX8_at rfl rfl rfl rfl rfl rfl (jstp_virtual (sa := [vI x1]) (st := []) (k := 0) rfl rfl sX8_at okX8_at g_1 (one41.k g_1) rfl rfl) w (fun v_8 h_6 _ _ w => ?_)
  refine jw_istore_n (pc' := 107) (ls' := [some (vR 41 r0), some (vI x1), some (vI v_8), none]) rfl (by decide) rfl ?_
  refine jw_iload_n (pc' := 108) rfl rfl ?_
  refine jw_if_ge (tgt := 119) (pc' := 111) rfl rfl (fun c_9 => ?_) (fun c_9 => ?_)
  · replace w := w.1 c_9
    refine jw_iload_n (pc' := 120) rfl rfl ?_
    refine jw_cI (st := []) (sa := [vI v_8]) okX8_letter rfl rfl rfl rfl rfl rfl (jstp_static (sa := [vI v_8]) (st := []) rfl rfl sX8_letter okX8_letter rfl rfl) w (fun v_12 h_10 _ _ w => ?_)
    refine jw_if_eq (tgt := 133) (pc' := 126) rfl rfl (fun c_13 => ?_) (fun c_13 => ?_)
    · replace w := w.1 c_13
      refine jw_iload_n (pc' := 134) rfl rfl ?_
      refine jw_cI (st := []) (sa := [vI v_8]) okX8_digit rfl rfl rfl rfl rfl rfl (jstp_static (sa := [vI v_8]) (st := []) rfl rfl sX8_digit okX8_digit rfl rfl) w (fun v_16 h_14 _ _ w => ?_)
      refine jw_if_eq (tgt := 233) (pc' := 140) rfl rfl (fun c_17 => ?_) (fun c_17 => ?_)
      · replace w := w.1 c_17
        refine jw_iload_n (pc' := 234) rfl rfl ?_
        refine jw_bipush (pc' := 236) (x := (39 : Int32)) rfl rfl ?_
        refine jw_icmp_ne (tgt := 246) (pc' := 239) rfl rfl (fun c_18 => ?_) (fun c_18 => ?_)
        · replace w := w.1 c_18
          refine jw_iload_n (pc' := 247) rfl rfl ?_
          refine jw_bipush (pc' := 249) (x := (36 : Int32)) rfl rfl ?_
          refine jw_icmp_ne (tgt := 311) (pc' := 252) rfl rfl (fun c_19 => ?_) (fun c_19 => ?_)
          · replace w := w.1 c_19
            refine jw_iload_n (pc' := 312) rfl rfl ?_
            refine jw_bipush (pc' := 314) (x := (60 : Int32)) rfl rfl ?_
            refine jw_icmp_ne (tgt := 341) (pc' := 317) rfl rfl (fun c_20 => ?_) (fun c_20 => ?_)
            · replace w := w.1 c_20
              exact w_X8_next_341 w
            · replace w := w.2 c_20
              refine jw_aload_n (pc' := 318) rfl rfl ?_
              refine jw_iload_n (pc' := 319) rfl rfl ?_
              refine jw_iconst (pc' := 320) (x := (1 : Int32)) rfl rfl ?_
              refine jw_iadd (pc' := 321) rfl ?_
              refine jw_cI (st := []) (sa := [vR 41 r0, vI (x1 + (1 : Int32))]) okX8_at rfl rfl rfl rfl rfl rfl (jstp_virtual (sa := [vI (x1 + (1 : Int32))]) (st := []) (k := 0) rfl rfl sX8_at okX8_at g_1 (one41.k g_1) rfl rfl) w (fun v_23 h_21 _ _ w => ?_)
              refine jw_bipush (pc' := 326) (x := (62 : Int32)) rfl rfl ?_
              refine jw_icmp_eq (tgt := 377) (pc' := 329) rfl rfl (fun c_24 => ?_) (fun c_24 => ?_)
              · replace w := w.1 c_24
                exact w_X8_next_377 w
              · replace w := w.2 c_24
                refine jw_aload_n (pc' := 330) rfl rfl ?_
                refine jw_iload_n (pc' := 331) rfl rfl ?_
                refine jw_iconst (pc' := 332) (x := (1 : Int32)) rfl rfl ?_
                refine jw_iadd (pc' := 333) rfl ?_
                refine jw_cI (st := []) (sa := [vR 41 r0, vI (x1 + (1 : Int32))]) okX8_at rfl rfl rfl rfl rfl rfl (jstp_virtual (sa := [vI (x1 + (1 : Int32))]) (st := []) (k := 0) rfl rfl sX8_at okX8_at g_1 (one41.k g_1) rfl rfl) w (fun v_27 h_25 _ _ w => ?_)
                refine jw_bipush (pc' := 338) (x := (61 : Int32)) rfl rfl ?_
                refine jw_icmp_eq (tgt := 377) (pc' := 341) rfl rfl (fun c_28 => ?_) (fun c_28 => ?_)
                · replace w := w.1 c_28
                  exact w_X8_next_377 w
                · replace w := w.2 c_28
                  exact w_X8_next_341 w
          · replace w := w.2 c_19
            refine jw_aload_n (pc' := 253) rfl rfl ?_
            refine jw_aload_n (pc' := 254) rfl rfl ?_
            refine jw_iload_n (pc' := 255) rfl rfl ?_
            refine jw_iconst (pc' := 256) (x := (1 : Int32)) rfl rfl ?_
            refine jw_iadd (pc' := 257) rfl ?_
            refine jw_cI (st := [vR 41 r0]) (sa := [vR 41 r0, vI (x1 + (1 : Int32))]) okX8_at rfl rfl rfl rfl rfl rfl (jstp_virtual (sa := [vI (x1 + (1 : Int32))]) (st := [vR 41 r0]) (k := 0) rfl rfl sX8_at okX8_at g_1 (one41.k g_1) rfl rfl) w (fun v_31 h_29 _ _ w => ?_)
            refine jw_bipush (pc' := 262) (x := (49 : Int32)) rfl rfl ?_
            refine jw_icmp_lt (tgt := 281) (pc' := 265) rfl rfl (fun c_32 => ?_) (fun c_32 => ?_)
            · replace w := w.1 c_32
              refine jw_gen (ls' := [some (vR 41 r0), some (vI x1), none, none]) (st' := [vR 41 r0]) (And.intro (Or.inl rfl) (And.intro (Or.inl rfl) (trivial))) (And.intro (Or.inl rfl) (trivial)) ?_
              exact w_X8_next_281 w
            · replace w := w.2 c_32
              refine jw_aload_n (pc' := 266) rfl rfl ?_
              refine jw_iload_n (pc' := 267) rfl rfl ?_
              refine jw_iconst (pc' := 268) (x := (1 : Int32)) rfl rfl ?_
              refine jw_iadd (pc' := 269) rfl ?_
              refine jw_cI (st := [vR 41 r0]) (sa := [vR 41 r0, vI (x1 + (1 : Int32))]) okX8_at rfl rfl rfl rfl rfl rfl (jstp_virtual (sa := [vI (x1 + (1 : Int32))]) (st := [vR 41 r0]) (k := 0) rfl rfl sX8_at okX8_at g_1 (one41.k g_1) rfl rfl) w (fun v_35 h_33 _ _ w => ?_)
              refine jw_bipush (pc' := 274) (x := (56 : Int32)) rfl rfl ?_
              refine jw_icmp_gt (tgt := 281) (pc' := 277) rfl rfl (fun c_36 => ?_) (fun c_36 => ?_)
              · replace w := w.1 c_36
                refine jw_gen (ls' := [some (vR 41 r0), some (vI x1), none, none]) (st' := [vR 41 r0]) (And.intro (Or.inl rfl) (And.intro (Or.inl rfl) (trivial))) (And.intro (Or.inl rfl) (trivial)) ?_
                exact w_X8_next_281 w
              · replace w := w.2 c_36
                refine jw_iconst (pc' := 278) (x := (5 : Int32)) rfl rfl ?_
                refine jw_goto (pc' := 283) rfl rfl ?_
                refine jw_gen (ls' := [some (vR 41 r0), some (vI x1), none, none]) (st' := [vI (5 : Int32), vR 41 r0]) (And.intro (Or.inl rfl) (And.intro (Or.inl rfl) (trivial))) (And.intro (Or.inl rfl) (And.intro (Or.inl rfl) (trivial))) ?_
                exact w_X8_next_283 w
        · replace w := w.2 c_18
          refine jw_aload_n (pc' := 240) rfl rfl ?_
          refine jw_cV (st := []) (sa := [vR 41 r0]) okX8_quoted rfl rfl rfl rfl rfl rfl (jstp_virtual (sa := []) (st := []) (k := 0) rfl rfl sX8_quoted okX8_quoted g_1 (one41.k g_1) rfl rfl) w (fun h_37 _ _ w => ?_)
          refine jw_goto (pc' := 424) rfl rfl ?_
          refine jw_gen (ls' := [none, none, none, none]) (st' := []) (trivial) (trivial) ?_
          exact w_X8_next_424 w
      · replace w := w.2 c_17
        refine jw_aload_n (pc' := 141) rfl rfl ?_
        refine jw_lconst (pc' := 142) (x := (0 : Int64)) rfl rfl ?_
        refine jw_putL' (pc' := 145) (F := 187) rfl rfl rfl (Or.inr rfl) (Or.inl rfl) rfl rfl rfl g_1 (fun h_40 e_41 => ?_)
        replace w := w h_40 e_41
        refine jw_gen (ls' := [some (vR 41 r0), none, none, none]) (st' := []) (And.intro (Or.inl rfl) (trivial)) (trivial) ?_
        obtain ⟨n, w⟩ := w
        exact l_X8_next_145 n _ _ w
    · replace w := w.2 c_13
      refine jw_aload_n (pc' := 127) rfl rfl ?_
      refine jw_cV (st := []) (sa := [vR 41 r0]) okX8_wordy rfl rfl rfl rfl rfl rfl (jstp_virtual (sa := []) (st := []) (k := 0) rfl rfl sX8_wordy okX8_wordy g_1 (one41.k g_1) rfl rfl) w (fun h_42 _ _ w => ?_)
      refine jw_goto (pc' := 424) rfl rfl ?_
      refine jw_gen (ls' := [none, none, none, none]) (st' := []) (trivial) (trivial) ?_
      exact w_X8_next_424 w
  · replace w := w.2 c_9
    refine jw_aload_n (pc' := 112) rfl rfl ?_
    refine jw_iconst (pc' := 113) (x := (0 : Int32)) rfl rfl ?_
    refine jw_putI' (pc' := 116) (F := 183) rfl rfl rfl (Or.inr rfl) (Or.inl rfl) rfl (rfl) (rfl) rfl g_1 (fun h_45 e_46 => ?_)
    replace w := w h_45 e_46
    refine jw_goto (pc' := 424) rfl rfl ?_
    refine jw_gen (ls' := [none, none, none, none]) (st' := []) (trivial) (trivial) ?_
    exact w_X8_next_424 w
def W_X8_next_88 (D : JD) (d : Nat) (Q : JO → JH → Prop) (K5 : Nat → Int32 → JH → Prop) (r0 : Nat) (x1 : Int32) (h : JH) : Prop :=
  K5 r0 x1 h
theorem w_X8_next_88 {D : JD} {d : Nat} {Q : JO → JH → Prop} {K5 : Nat → Int32 → JH → Prop} {r0 : Nat} {x1 : Int32} {h : JH} (hK5 : ∀ (r0 : Nat) (x1 : Int32) (h : JH), K5 r0 x1 h → JW D (d + 1) mX8_next 5 [some (vR 41 r0), some (vI x1), none, none] [] h Q) (w : W_X8_next_88 D d Q K5 r0 x1 h) : JW D (d + 1) mX8_next 88 [some (vR 41 r0), some (vI x1), none, none] [] h Q := by
  unfold W_X8_next_88 at w
  refine jw_goto (pc' := 5) rfl rfl ?_
  exact hK5 _ _ _ w
def W_X8_next_85 (D : JD) (d : Nat) (Q : JO → JH → Prop) (K5 : Nat → Int32 → JH → Prop) (r0 : Nat) (x1 : Int32) (h : JH) : Prop :=
  W_X8_next_88 D d Q K5 r0 (x1 + (1 : Int32)) h
theorem w_X8_next_85 {D : JD} {d : Nat} {Q : JO → JH → Prop} {K5 : Nat → Int32 → JH → Prop} {r0 : Nat} {x1 : Int32} {h : JH} (hK5 : ∀ (r0 : Nat) (x1 : Int32) (h : JH), K5 r0 x1 h → JW D (d + 1) mX8_next 5 [some (vR 41 r0), some (vI x1), none, none] [] h Q) (w : W_X8_next_85 D d Q K5 r0 x1 h) : JW D (d + 1) mX8_next 85 [some (vR 41 r0), some (vI x1), none, none] [] h Q := by
  unfold W_X8_next_85 at w
  refine jw_iinc (pc' := 88) (y := x1 + (1 : Int32)) (ls' := [some (vR 41 r0), some (vI (x1 + (1 : Int32))), none, none]) rfl (by decide) rfl rfl rfl ?_
  exact w_X8_next_88 hK5 w
def W_X8_next_61 (D : JD) (d : Nat) (Q : JO → JH → Prop) (K5 : Nat → Int32 → JH → Prop) (r0 : Nat) (x1 : Int32) (x2 : Int32) (h : JH) : Prop :=
  (x2 = (32 : Int32) → W_X8_next_85 D d Q K5 r0 x1 h) ∧ (¬ x2 = (32 : Int32) → (x2 = (9 : Int32) → W_X8_next_85 D d Q K5 r0 x1 h) ∧ (¬ x2 = (9 : Int32) → (x2 = (10 : Int32) → W_X8_next_85 D d Q K5 r0 x1 h) ∧ (¬ x2 = (10 : Int32) → (¬ x2 = (13 : Int32) → W_X8_next_91 D d Q r0 x1 h) ∧ (x2 = (13 : Int32) → W_X8_next_85 D d Q K5 r0 x1 h))))
theorem w_X8_next_61 {D : JD} {d : Nat} {Q : JO → JH → Prop} {K5 : Nat → Int32 → JH → Prop} {r0 : Nat} {x1 : Int32} {x2 : Int32} {h : JH} (hK5 : ∀ (r0 : Nat) (x1 : Int32) (h : JH), K5 r0 x1 h → JW D (d + 1) mX8_next 5 [some (vR 41 r0), some (vI x1), none, none] [] h Q) (w : W_X8_next_61 D d Q K5 r0 x1 x2 h) : JW D (d + 1) mX8_next 61 [some (vR 41 r0), some (vI x1), some (vI x2), none] [] h Q := by
  unfold W_X8_next_61 at w
  refine jw_iload_n (pc' := 62) rfl rfl ?_
  refine jw_bipush (pc' := 64) (x := (32 : Int32)) rfl rfl ?_
  refine jw_icmp_eq (tgt := 85) (pc' := 67) rfl rfl (fun c_1 => ?_) (fun c_1 => ?_)
  · replace w := w.1 c_1
    refine jw_gen (ls' := [some (vR 41 r0), some (vI x1), none, none]) (st' := []) (And.intro (Or.inl rfl) (And.intro (Or.inl rfl) (trivial))) (trivial) ?_
    exact w_X8_next_85 hK5 w
  · replace w := w.2 c_1
    refine jw_iload_n (pc' := 68) rfl rfl ?_
    refine jw_bipush (pc' := 70) (x := (9 : Int32)) rfl rfl ?_
    refine jw_icmp_eq (tgt := 85) (pc' := 73) rfl rfl (fun c_2 => ?_) (fun c_2 => ?_)
    · replace w := w.1 c_2
      refine jw_gen (ls' := [some (vR 41 r0), some (vI x1), none, none]) (st' := []) (And.intro (Or.inl rfl) (And.intro (Or.inl rfl) (trivial))) (trivial) ?_
      exact w_X8_next_85 hK5 w
    · replace w := w.2 c_2
      refine jw_iload_n (pc' := 74) rfl rfl ?_
      refine jw_bipush (pc' := 76) (x := (10 : Int32)) rfl rfl ?_
      refine jw_icmp_eq (tgt := 85) (pc' := 79) rfl rfl (fun c_3 => ?_) (fun c_3 => ?_)
      · replace w := w.1 c_3
        refine jw_gen (ls' := [some (vR 41 r0), some (vI x1), none, none]) (st' := []) (And.intro (Or.inl rfl) (And.intro (Or.inl rfl) (trivial))) (trivial) ?_
        exact w_X8_next_85 hK5 w
      · replace w := w.2 c_3
        refine jw_iload_n (pc' := 80) rfl rfl ?_
        refine jw_bipush (pc' := 82) (x := (13 : Int32)) rfl rfl ?_
        refine jw_icmp_ne (tgt := 91) (pc' := 85) rfl rfl (fun c_4 => ?_) (fun c_4 => ?_)
        · replace w := w.1 c_4
          refine jw_gen (ls' := [some (vR 41 r0), some (vI x1), none, none]) (st' := []) (And.intro (Or.inl rfl) (And.intro (Or.inl rfl) (trivial))) (trivial) ?_
          exact w_X8_next_91 w
        · replace w := w.2 c_4
          refine jw_gen (ls' := [some (vR 41 r0), some (vI x1), none, none]) (st' := []) (And.intro (Or.inl rfl) (And.intro (Or.inl rfl) (trivial))) (trivial) ?_
          exact w_X8_next_85 hK5 w
def W_X8_next_37 (D : JD) (d : Nat) (Q : JO → JH → Prop) (K5 : Nat → Int32 → JH → Prop) (K37 : Nat → Int32 → JH → Prop) (r0 : Nat) (x1 : Int32) (h : JH) : Prop :=
  r0 ≠ 0 ∧ (((jfi h 182 r0) ≤ x1 → W_X8_next_88 D d Q K5 r0 x1 h) ∧ (¬ (jfi h 182 r0) ≤ x1 → cX8_at D d r0 x1 h (pI D h (fun v_5 h_3 => (v_5 = (10 : Int32) → W_X8_next_88 D d Q K5 r0 x1 h_3) ∧ (¬ v_5 = (10 : Int32) → K37 r0 (x1 + (1 : Int32)) h_3)) (jth Q))))
theorem w_X8_next_37 {D : JD} {d : Nat} {Q : JO → JH → Prop} {K5 : Nat → Int32 → JH → Prop} {K37 : Nat → Int32 → JH → Prop} {r0 : Nat} {x1 : Int32} {h : JH} (hK5 : ∀ (r0 : Nat) (x1 : Int32) (h : JH), K5 r0 x1 h → JW D (d + 1) mX8_next 5 [some (vR 41 r0), some (vI x1), none, none] [] h Q) (hK37 : ∀ (r0 : Nat) (x1 : Int32) (h : JH), K37 r0 x1 h → JW D (d + 1) mX8_next 37 [some (vR 41 r0), some (vI x1), none, none] [] h Q) (w : W_X8_next_37 D d Q K5 K37 r0 x1 h) : JW D (d + 1) mX8_next 37 [some (vR 41 r0), some (vI x1), none, none] [] h Q := by
  unfold W_X8_next_37 at w
  refine jw_iload_n (pc' := 38) rfl rfl ?_
  refine jw_aload_n (pc' := 39) rfl rfl ?_
  obtain ⟨g_1, w⟩ := w
  refine jw_getI (pc' := 42) (F := 182) rfl rfl rfl rfl g_1 ?_
  refine jw_icmp_ge (tgt := 88) (pc' := 45) rfl rfl (fun c_2 => ?_) (fun c_2 => ?_)
  · replace w := w.1 c_2
    exact w_X8_next_88 hK5 w
  · replace w := w.2 c_2
    refine jw_aload_n (pc' := 46) rfl rfl ?_
    refine jw_iload_n (pc' := 47) rfl rfl ?_
    refine jw_cI (st := []) (sa := [vR 41 r0, vI x1]) okX8_at rfl rfl rfl rfl rfl rfl (jstp_virtual (sa := [vI x1]) (st := []) (k := 0) rfl rfl sX8_at okX8_at g_1 (one41.k g_1) rfl rfl) w (fun v_5 h_3 _ _ w => ?_)
    refine jw_bipush (pc' := 52) (x := (10 : Int32)) rfl rfl ?_
    refine jw_icmp_eq (tgt := 88) (pc' := 55) rfl rfl (fun c_6 => ?_) (fun c_6 => ?_)
    · replace w := w.1 c_6
      exact w_X8_next_88 hK5 w
    · replace w := w.2 c_6
      refine jw_iinc (pc' := 58) (y := x1 + (1 : Int32)) (ls' := [some (vR 41 r0), some (vI (x1 + (1 : Int32))), none, none]) rfl (by decide) rfl rfl rfl ?_
      refine jw_goto (pc' := 37) rfl rfl ?_
      exact hK37 _ _ _ w
def L_X8_next_37 (D : JD) (d : Nat) (Q : JO → JH → Prop) (K5 : Nat → Int32 → JH → Prop) : Nat → Nat → Int32 → JH → Prop
  | 0 => fun _ _ _ => False
  | n + 1 => fun r0 x1 h => W_X8_next_37 D d Q K5 (L_X8_next_37 D d Q K5 n) r0 x1 h
theorem l_X8_next_37 {D : JD} {d : Nat} {Q : JO → JH → Prop} {K5 : Nat → Int32 → JH → Prop} (hK5 : ∀ (r0 : Nat) (x1 : Int32) (h : JH), K5 r0 x1 h → JW D (d + 1) mX8_next 5 [some (vR 41 r0), some (vI x1), none, none] [] h Q) : ∀ (n : Nat) (r0 : Nat) (x1 : Int32) (h : JH), L_X8_next_37 D d Q K5 n r0 x1 h → JW D (d + 1) mX8_next 37 [some (vR 41 r0), some (vI x1), none, none] [] h Q := by
  intro n
  induction n with
  | zero => intro _ _ _ w; exact w.elim
  | succ n ih => intro _ _ h w; exact w_X8_next_37 hK5 ih w
def W_X8_next_5 (D : JD) (d : Nat) (Q : JO → JH → Prop) (K5 : Nat → Int32 → JH → Prop) (r0 : Nat) (x1 : Int32) (h : JH) : Prop :=
  r0 ≠ 0 ∧ (((jfi h 182 r0) ≤ x1 → W_X8_next_91 D d Q r0 x1 h) ∧ (¬ (jfi h 182 r0) ≤ x1 → cX8_at D d r0 x1 h (pI D h (fun v_5 h_3 => (¬ v_5 = (45 : Int32) → W_X8_next_61 D d Q K5 r0 x1 v_5 h_3) ∧ (v_5 = (45 : Int32) → cX8_at D d r0 (x1 + (1 : Int32)) h_3 (pI D h_3 (fun v_9 h_7 => (¬ v_9 = (45 : Int32) → W_X8_next_61 D d Q K5 r0 x1 v_5 h_7) ∧ (v_9 = (45 : Int32) → ∃ n, L_X8_next_37 D d Q K5 n r0 x1 h_7)) (jth Q)))) (jth Q))))
theorem w_X8_next_5 {D : JD} {d : Nat} {Q : JO → JH → Prop} {K5 : Nat → Int32 → JH → Prop} {r0 : Nat} {x1 : Int32} {h : JH} (hK5 : ∀ (r0 : Nat) (x1 : Int32) (h : JH), K5 r0 x1 h → JW D (d + 1) mX8_next 5 [some (vR 41 r0), some (vI x1), none, none] [] h Q) (w : W_X8_next_5 D d Q K5 r0 x1 h) : JW D (d + 1) mX8_next 5 [some (vR 41 r0), some (vI x1), none, none] [] h Q := by
  unfold W_X8_next_5 at w
  refine jw_iload_n (pc' := 6) rfl rfl ?_
  refine jw_aload_n (pc' := 7) rfl rfl ?_
  obtain ⟨g_1, w⟩ := w
  refine jw_getI (pc' := 10) (F := 182) rfl rfl rfl rfl g_1 ?_
  refine jw_icmp_ge (tgt := 91) (pc' := 13) rfl rfl (fun c_2 => ?_) (fun c_2 => ?_)
  · replace w := w.1 c_2
    exact w_X8_next_91 w
  · replace w := w.2 c_2
    refine jw_aload_n (pc' := 14) rfl rfl ?_
    refine jw_iload_n (pc' := 15) rfl rfl ?_
    refine jw_cI (st := []) (sa := [vR 41 r0, vI x1]) okX8_at rfl rfl rfl rfl rfl rfl (jstp_virtual (sa := [vI x1]) (st := []) (k := 0) rfl rfl sX8_at okX8_at g_1 (one41.k g_1) rfl rfl) w (fun v_5 h_3 _ _ w => ?_)
    refine jw_istore_n (pc' := 19) (ls' := [some (vR 41 r0), some (vI x1), some (vI v_5), none]) rfl (by decide) rfl ?_
    refine jw_iload_n (pc' := 20) rfl rfl ?_
    refine jw_bipush (pc' := 22) (x := (45 : Int32)) rfl rfl ?_
    refine jw_icmp_ne (tgt := 61) (pc' := 25) rfl rfl (fun c_6 => ?_) (fun c_6 => ?_)
    · replace w := w.1 c_6
      exact w_X8_next_61 hK5 w
    · replace w := w.2 c_6
      refine jw_aload_n (pc' := 26) rfl rfl ?_
      refine jw_iload_n (pc' := 27) rfl rfl ?_
      refine jw_iconst (pc' := 28) (x := (1 : Int32)) rfl rfl ?_
      refine jw_iadd (pc' := 29) rfl ?_
      refine jw_cI (st := []) (sa := [vR 41 r0, vI (x1 + (1 : Int32))]) okX8_at rfl rfl rfl rfl rfl rfl (jstp_virtual (sa := [vI (x1 + (1 : Int32))]) (st := []) (k := 0) rfl rfl sX8_at okX8_at g_1 (one41.k g_1) rfl rfl) w (fun v_9 h_7 _ _ w => ?_)
      refine jw_bipush (pc' := 34) (x := (45 : Int32)) rfl rfl ?_
      refine jw_icmp_ne (tgt := 61) (pc' := 37) rfl rfl (fun c_10 => ?_) (fun c_10 => ?_)
      · replace w := w.1 c_10
        exact w_X8_next_61 hK5 w
      · replace w := w.2 c_10
        refine jw_gen (ls' := [some (vR 41 r0), some (vI x1), none, none]) (st' := []) (And.intro (Or.inl rfl) (And.intro (Or.inl rfl) (trivial))) (trivial) ?_
        obtain ⟨n, w⟩ := w
        exact l_X8_next_37 hK5 n _ _ _ w
def L_X8_next_5 (D : JD) (d : Nat) (Q : JO → JH → Prop) : Nat → Nat → Int32 → JH → Prop
  | 0 => fun _ _ _ => False
  | n + 1 => fun r0 x1 h => W_X8_next_5 D d Q (L_X8_next_5 D d Q n) r0 x1 h
theorem l_X8_next_5 {D : JD} {d : Nat} {Q : JO → JH → Prop} : ∀ (n : Nat) (r0 : Nat) (x1 : Int32) (h : JH), L_X8_next_5 D d Q n r0 x1 h → JW D (d + 1) mX8_next 5 [some (vR 41 r0), some (vI x1), none, none] [] h Q := by
  intro n
  induction n with
  | zero => intro _ _ _ w; exact w.elim
  | succ n ih => intro _ _ h w; exact w_X8_next_5 ih w
def W_X8_next_0 (D : JD) (d : Nat) (Q : JO → JH → Prop) (r0 : Nat) (h : JH) : Prop :=
  r0 ≠ 0 ∧ (∃ n, L_X8_next_5 D d Q n r0 (jfi h 185 r0) h)
theorem w_X8_next_0 {D : JD} {d : Nat} {Q : JO → JH → Prop} {r0 : Nat} {h : JH} (w : W_X8_next_0 D d Q r0 h) : JW D (d + 1) mX8_next 0 [some (vR 41 r0), none, none, none] [] h Q := by
  unfold W_X8_next_0 at w
  refine jw_aload_n (pc' := 1) rfl rfl ?_
  obtain ⟨g_1, w⟩ := w
  refine jw_getI (pc' := 4) (F := 185) rfl rfl rfl rfl g_1 ?_
  refine jw_istore_n (pc' := 5) (ls' := [some (vR 41 r0), some (vI (jfi h 185 r0)), none, none]) rfl (by decide) rfl ?_
  obtain ⟨n, w⟩ := w
  exact l_X8_next_5 n _ _ _ w
def T_X8_next (D : JD) (d : Nat) (Q : JO → JH → Prop) (r0 : Nat) (h : JH) : Prop := W_X8_next_0 D d Q r0 h
theorem t_X8_next {D : JD} {d : Nat} {Q : JO → JH → Prop} {r0 : Nat} {h : JH} (w : T_X8_next D d Q r0 h) : cX8_next D (d + 1) r0 h Q := by
  unfold T_X8_next at w
  unfold cX8_next
  exact w_X8_next_0 w
def W_X8_at_22 (D : JD) (d : Nat) (Q : JO → JH → Prop) (s0 : Int32) (h : JH) : Prop :=
  Q (.inl (some (vI s0))) h
theorem w_X8_at_22 {D : JD} {d : Nat} {Q : JO → JH → Prop} {s0 : Int32} {h : JH} (w : W_X8_at_22 D d Q s0 h) : JW D (d + 1) mX8_at 22 [none, none] [vI s0] h Q := by
  unfold W_X8_at_22 at w
  exact jw_ireturn rfl rfl (rfl) w
def W_X8_at_0 (D : JD) (d : Nat) (Q : JO → JH → Prop) (r0 : Nat) (x1 : Int32) (h : JH) : Prop :=
  r0 ≠ 0 ∧ (((jfi h 182 r0) ≤ x1 → W_X8_at_22 D d Q (-1 : Int32) h) ∧ (¬ (jfi h 182 r0) ≤ x1 → (jfr h 181 r0) ≠ 0 ∧ jin x1 (jln h (jfr h 181 r0)) ∧ (W_X8_at_22 D d Q ((jai h (jfr h 181 r0) (ixn x1)) &&& (255 : Int32)) h)))
theorem w_X8_at_0 {D : JD} {d : Nat} {Q : JO → JH → Prop} {r0 : Nat} {x1 : Int32} {h : JH} (w : W_X8_at_0 D d Q r0 x1 h) : JW D (d + 1) mX8_at 0 [some (vR 41 r0), some (vI x1)] [] h Q := by
  unfold W_X8_at_0 at w
  refine jw_iload_n (pc' := 1) rfl rfl ?_
  refine jw_aload_n (pc' := 2) rfl rfl ?_
  obtain ⟨g_1, w⟩ := w
  refine jw_getI (pc' := 5) (F := 182) rfl rfl rfl rfl g_1 ?_
  refine jw_icmp_ge (tgt := 21) (pc' := 8) rfl rfl (fun c_2 => ?_) (fun c_2 => ?_)
  · replace w := w.1 c_2
    refine jw_iconst (pc' := 22) (x := (-1 : Int32)) rfl rfl ?_
    refine jw_gen (ls' := [none, none]) (st' := [vI (-1 : Int32)]) (trivial) (And.intro (Or.inl rfl) (trivial)) ?_
    exact w_X8_at_22 w
  · replace w := w.2 c_2
    refine jw_aload_n (pc' := 9) rfl rfl ?_
    refine jw_getR (pc' := 12) (F := 181) (t' := 164) rfl rfl rfl rfl rfl g_1 ?_
    refine jw_iload_n (pc' := 13) rfl rfl ?_
    obtain ⟨g_3, w⟩ := w
    obtain ⟨g_4, w⟩ := w
    refine jw_bald (pc' := 14) rfl rfl rfl rfl g_3 g_4.ix g_4.2 ?_
    refine jw_sipush (pc' := 17) (x := (255 : Int32)) rfl rfl ?_
    refine jw_iand (pc' := 18) rfl ?_
    refine jw_goto (pc' := 22) rfl rfl ?_
    refine jw_gen (ls' := [none, none]) (st' := [vI ((jai h (jfr h 181 r0) (ixn x1)) &&& (255 : Int32))]) (trivial) (And.intro (Or.inl rfl) (trivial)) ?_
    exact w_X8_at_22 w
def T_X8_at (D : JD) (d : Nat) (Q : JO → JH → Prop) (r0 : Nat) (x1 : Int32) (h : JH) : Prop := W_X8_at_0 D d Q r0 x1 h
theorem t_X8_at {D : JD} {d : Nat} {Q : JO → JH → Prop} {r0 : Nat} {x1 : Int32} {h : JH} (w : T_X8_at D d Q r0 x1 h) : cX8_at D (d + 1) r0 x1 h Q := by
  unfold T_X8_at at w
  unfold cX8_at
  exact w_X8_at_0 w
def W_X8_letter_35 (D : JD) (d : Nat) (Q : JO → JH → Prop) (s0 : Int32) (h : JH) : Prop :=
  jbo s0 ∧ (Q (.inl (some (vI s0))) h)
theorem w_X8_letter_35 {D : JD} {d : Nat} {Q : JO → JH → Prop} {s0 : Int32} {h : JH} (w : W_X8_letter_35 D d Q s0 h) : JW D (d + 1) mX8_letter 35 [none] [vI s0] h Q := by
  unfold W_X8_letter_35 at w
  obtain ⟨g_1, w⟩ := w
  exact jw_ireturn rfl rfl (g_1.nr) w
def W_X8_letter_30 (D : JD) (d : Nat) (Q : JO → JH → Prop) (h : JH) : Prop :=
  W_X8_letter_35 D d Q (1 : Int32) h
theorem w_X8_letter_30 {D : JD} {d : Nat} {Q : JO → JH → Prop} {h : JH} (w : W_X8_letter_30 D d Q h) : JW D (d + 1) mX8_letter 30 [none] [] h Q := by
  unfold W_X8_letter_30 at w
  refine jw_iconst (pc' := 31) (x := (1 : Int32)) rfl rfl ?_
  refine jw_goto (pc' := 35) rfl rfl ?_
  exact w_X8_letter_35 w
def W_X8_letter_24 (D : JD) (d : Nat) (Q : JO → JH → Prop) (x0 : Int32) (h : JH) : Prop :=
  (¬ x0 = (95 : Int32) → W_X8_letter_35 D d Q (0 : Int32) h) ∧ (x0 = (95 : Int32) → W_X8_letter_30 D d Q h)
theorem w_X8_letter_24 {D : JD} {d : Nat} {Q : JO → JH → Prop} {x0 : Int32} {h : JH} (w : W_X8_letter_24 D d Q x0 h) : JW D (d + 1) mX8_letter 24 [some (vI x0)] [] h Q := by
  unfold W_X8_letter_24 at w
  refine jw_iload_n (pc' := 25) rfl rfl ?_
  refine jw_bipush (pc' := 27) (x := (95 : Int32)) rfl rfl ?_
  refine jw_icmp_ne (tgt := 34) (pc' := 30) rfl rfl (fun c_1 => ?_) (fun c_1 => ?_)
  · replace w := w.1 c_1
    refine jw_iconst (pc' := 35) (x := (0 : Int32)) rfl rfl ?_
    refine jw_gen (ls' := [none]) (st' := [vI (0 : Int32)]) (trivial) (And.intro (Or.inl rfl) (trivial)) ?_
    exact w_X8_letter_35 w
  · replace w := w.2 c_1
    refine jw_gen (ls' := [none]) (st' := []) (trivial) (trivial) ?_
    exact w_X8_letter_30 w
def W_X8_letter_12 (D : JD) (d : Nat) (Q : JO → JH → Prop) (x0 : Int32) (h : JH) : Prop :=
  (x0 < (65 : Int32) → W_X8_letter_24 D d Q x0 h) ∧ (¬ x0 < (65 : Int32) → (x0 ≤ (90 : Int32) → W_X8_letter_30 D d Q h) ∧ (¬ x0 ≤ (90 : Int32) → W_X8_letter_24 D d Q x0 h))
theorem w_X8_letter_12 {D : JD} {d : Nat} {Q : JO → JH → Prop} {x0 : Int32} {h : JH} (w : W_X8_letter_12 D d Q x0 h) : JW D (d + 1) mX8_letter 12 [some (vI x0)] [] h Q := by
  unfold W_X8_letter_12 at w
  refine jw_iload_n (pc' := 13) rfl rfl ?_
  refine jw_bipush (pc' := 15) (x := (65 : Int32)) rfl rfl ?_
  refine jw_icmp_lt (tgt := 24) (pc' := 18) rfl rfl (fun c_1 => ?_) (fun c_1 => ?_)
  · replace w := w.1 c_1
    exact w_X8_letter_24 w
  · replace w := w.2 c_1
    refine jw_iload_n (pc' := 19) rfl rfl ?_
    refine jw_bipush (pc' := 21) (x := (90 : Int32)) rfl rfl ?_
    refine jw_icmp_le (tgt := 30) (pc' := 24) rfl rfl (fun c_2 => ?_) (fun c_2 => ?_)
    · replace w := w.1 c_2
      refine jw_gen (ls' := [none]) (st' := []) (trivial) (trivial) ?_
      exact w_X8_letter_30 w
    · replace w := w.2 c_2
      exact w_X8_letter_24 w
def W_X8_letter_0 (D : JD) (d : Nat) (Q : JO → JH → Prop) (x0 : Int32) (h : JH) : Prop :=
  (x0 < (97 : Int32) → W_X8_letter_12 D d Q x0 h) ∧ (¬ x0 < (97 : Int32) → (x0 ≤ (122 : Int32) → W_X8_letter_30 D d Q h) ∧ (¬ x0 ≤ (122 : Int32) → W_X8_letter_12 D d Q x0 h))
theorem w_X8_letter_0 {D : JD} {d : Nat} {Q : JO → JH → Prop} {x0 : Int32} {h : JH} (w : W_X8_letter_0 D d Q x0 h) : JW D (d + 1) mX8_letter 0 [some (vI x0)] [] h Q := by
  unfold W_X8_letter_0 at w
  refine jw_iload_n (pc' := 1) rfl rfl ?_
  refine jw_bipush (pc' := 3) (x := (97 : Int32)) rfl rfl ?_
  refine jw_icmp_lt (tgt := 12) (pc' := 6) rfl rfl (fun c_1 => ?_) (fun c_1 => ?_)
  · replace w := w.1 c_1
    exact w_X8_letter_12 w
  · replace w := w.2 c_1
    refine jw_iload_n (pc' := 7) rfl rfl ?_
    refine jw_bipush (pc' := 9) (x := (122 : Int32)) rfl rfl ?_
    refine jw_icmp_le (tgt := 30) (pc' := 12) rfl rfl (fun c_2 => ?_) (fun c_2 => ?_)
    · replace w := w.1 c_2
      refine jw_gen (ls' := [none]) (st' := []) (trivial) (trivial) ?_
      exact w_X8_letter_30 w
    · replace w := w.2 c_2
      exact w_X8_letter_12 w
def T_X8_letter (D : JD) (d : Nat) (Q : JO → JH → Prop) (x0 : Int32) (h : JH) : Prop := W_X8_letter_0 D d Q x0 h
theorem t_X8_letter {D : JD} {d : Nat} {Q : JO → JH → Prop} {x0 : Int32} {h : JH} (w : T_X8_letter D d Q x0 h) : cX8_letter D (d + 1) x0 h Q := by
  unfold T_X8_letter at w
  unfold cX8_letter
  exact w_X8_letter_0 w
