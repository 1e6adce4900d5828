/-! what each method needs (printed by tools/gen_wp.py) -/
set_option maxRecDepth 4000
def W_J0_init_0 (D : JD) (d : Nat) (Q : JO → JH → Prop) (r0 : Nat) (h : JH) : Prop :=
  r0 ≠ 0 ∧ (False)
theorem w_J0_init_0 {D : JD} {d : Nat} {Q : JO → JH → Prop} {r0 : Nat} {h : JH} (w : W_J0_init_0 D d Q r0 h) : JW D (d + 1) mJ0_init 0 [some (vR 10 r0)] [] h Q := by
  unfold W_J0_init_0 at w
  refine jw_aload_n (pc' := 1) rfl rfl ?_
  obtain ⟨g_1, w⟩ := w
  refine jw_obj (pc' := 4) rfl (lw_g (jtb_mem (c := 3) (i := 43) rfl) rfl) rfl g_1 ?_
  refine jw_aload_n (pc' := 5) rfl rfl ?_
  refine jw_aload_n (pc' := 6) rfl rfl ?_
  exact w.elim
def T_J0_init (D : JD) (d : Nat) (Q : JO → JH → Prop) (r0 : Nat) (h : JH) : Prop := W_J0_init_0 D d Q r0 h
theorem t_J0_init {D : JD} {d : Nat} {Q : JO → JH → Prop} {r0 : Nat} {h : JH} (w : T_J0_init D d Q r0 h) : cJ0_init D (d + 1) r0 h Q := by
  unfold T_J0_init at w
  unfold cJ0_init
  exact w_J0_init_0 w
def W_J0_init_2_0 (D : JD) (d : Nat) (Q : JO → JH → Prop) (r0 : Nat) (r1 : Nat) (h : JH) : Prop :=
  r0 ≠ 0 ∧ (False)
theorem w_J0_init_2_0 {D : JD} {d : Nat} {Q : JO → JH → Prop} {r0 : Nat} {r1 : Nat} {h : JH} (w : W_J0_init_2_0 D d Q r0 r1 h) : JW D (d + 1) mJ0_init_2 0 [some (vR 10 r0), some (vR 64 r1)] [] h Q := by
  unfold W_J0_init_2_0 at w
  refine jw_aload_n (pc' := 1) rfl rfl ?_
  obtain ⟨g_1, w⟩ := w
  refine jw_obj (pc' := 4) rfl (lw_g (jtb_mem (c := 3) (i := 43) rfl) rfl) rfl g_1 ?_
  refine jw_aload_n (pc' := 5) rfl rfl ?_
  refine jw_aload_n (pc' := 6) rfl rfl ?_
  exact w.elim
def T_J0_init_2 (D : JD) (d : Nat) (Q : JO → JH → Prop) (r0 : Nat) (r1 : Nat) (h : JH) : Prop := W_J0_init_2_0 D d Q r0 r1 h
theorem t_J0_init_2 {D : JD} {d : Nat} {Q : JO → JH → Prop} {r0 : Nat} {r1 : Nat} {h : JH} (w : T_J0_init_2 D d Q r0 r1 h) : cJ0_init_2 D (d + 1) r0 r1 h Q := by
  unfold T_J0_init_2 at w
  unfold cJ0_init_2
  exact w_J0_init_2_0 w
def W_J0_init_3_60 (D : JD) (d : Nat) (Q : JO → JH → Prop) (h : JH) : Prop :=
  Q (.inl none) h
theorem w_J0_init_3_60 {D : JD} {d : Nat} {Q : JO → JH → Prop} {h : JH} (w : W_J0_init_3_60 D d Q h) : JW D (d + 1) mJ0_init_3 60 [none, none, none, none, none] [] h Q := by
  unfold W_J0_init_3_60 at w
  exact jw_return rfl rfl w
def W_J0_init_3_41 (D : JD) (d : Nat) (Q : JO → JH → Prop) (r0 : Nat) (r1 : Nat) (r2 : Nat) (x3 : Int32) (h : JH) : Prop :=
  False
theorem w_J0_init_3_41 {D : JD} {d : Nat} {Q : JO → JH → Prop} {r0 : Nat} {r1 : Nat} {r2 : Nat} {x3 : Int32} {h : JH} (w : W_J0_init_3_41 D d Q r0 r1 r2 x3 h) : JW D (d + 1) mJ0_init_3 41 [some (vR 10 r0), some (vR 64 r1), some (vR 10 r2), some (vI x3), none] [] h Q := by
  unfold W_J0_init_3_41 at w
  refine jw_aload_n (pc' := 42) rfl rfl ?_
  refine jw_aload_n (pc' := 43) rfl rfl ?_
  exact w.elim
def W_J0_init_3_0 (D : JD) (d : Nat) (Q : JO → JH → Prop) (r0 : Nat) (r1 : Nat) (r2 : Nat) (x3 : Int32) (x4 : Int32) (h : JH) : Prop :=
  r0 ≠ 0 ∧ (False)
theorem w_J0_init_3_0 {D : JD} {d : Nat} {Q : JO → JH → Prop} {r0 : Nat} {r1 : Nat} {r2 : Nat} {x3 : Int32} {x4 : Int32} {h : JH} (w : W_J0_init_3_0 D d Q r0 r1 r2 x3 x4 h) : JW D (d + 1) mJ0_init_3 0 [some (vR 10 r0), some (vR 64 r1), some (vR 10 r2), some (vI x3), some (vI x4)] [] h Q := by
  unfold W_J0_init_3_0 at w
  refine jw_aload_n (pc' := 1) rfl rfl ?_
  obtain ⟨g_1, w⟩ := w
  refine jw_obj (pc' := 4) rfl (lw_g (jtb_mem (c := 3) (i := 43) rfl) rfl) rfl g_1 ?_
  refine jw_aload_n (pc' := 5) rfl rfl ?_
  refine jw_aload_n (pc' := 6) rfl rfl ?_
  exact w.elim
def T_J0_init_3 (D : JD) (d : Nat) (Q : JO → JH → Prop) (r0 : Nat) (r1 : Nat) (r2 : Nat) (x3 : Int32) (x4 : Int32) (h : JH) : Prop := W_J0_init_3_0 D d Q r0 r1 r2 x3 x4 h
theorem t_J0_init_3 {D : JD} {d : Nat} {Q : JO → JH → Prop} {r0 : Nat} {r1 : Nat} {r2 : Nat} {x3 : Int32} {x4 : Int32} {h : JH} (w : T_J0_init_3 D d Q r0 r1 r2 x3 x4 h) : cJ0_init_3 D (d + 1) r0 r1 r2 x3 x4 h Q := by
  unfold T_J0_init_3 at w
  unfold cJ0_init_3
  exact w_J0_init_3_0 w
def W_J1_init_0 (D : JD) (d : Nat) (Q : JO → JH → Prop) (r0 : Nat) (h : JH) : Prop :=
  r0 ≠ 0 ∧ (cJ0_init D d r0 h (pV D h (fun h_2 => Q (.inl none) h_2) (jth Q)))
theorem w_J1_init_0 {D : JD} {d : Nat} {Q : JO → JH → Prop} {r0 : Nat} {h : JH} (w : W_J1_init_0 D d Q r0 h) : JW D (d + 1) mJ1_init 0 [some (vR 60 r0)] [] h Q := by
  unfold W_J1_init_0 at w
  refine jw_aload_n (pc' := 1) rfl rfl ?_
  obtain ⟨g_1, w⟩ := w
  refine jw_cV (st := []) (sa := [vR 60 r0]) okJ0_init rfl rfl rfl rfl rfl rfl (jstp_init (sa := []) (st := []) rfl rfl sJ0_init okJ0_init (lw_g (jtb_mem (c := 3) (i := 42) rfl) rfl) g_1 rfl rfl) w (fun h_2 _ _ w => ?_)
  exact jw_return rfl rfl w
def T_J1_init (D : JD) (d : Nat) (Q : JO → JH → Prop) (r0 : Nat) (h : JH) : Prop := W_J1_init_0 D d Q r0 h
theorem t_J1_init {D : JD} {d : Nat} {Q : JO → JH → Prop} {r0 : Nat} {h : JH} (w : T_J1_init D d Q r0 h) : cJ1_init D (d + 1) r0 h Q := by
  unfold T_J1_init at w
  unfold cJ1_init
  exact w_J1_init_0 w
def W_J1_init_2_0 (D : JD) (d : Nat) (Q : JO → JH → Prop) (r0 : Nat) (r1 : Nat) (h : JH) : Prop :=
  r0 ≠ 0 ∧ (cJ0_init_2 D d r0 r1 h (pV D h (fun h_2 => Q (.inl none) h_2) (jth Q)))
theorem w_J1_init_2_0 {D : JD} {d : Nat} {Q : JO → JH → Prop} {r0 : Nat} {r1 : Nat} {h : JH} (w : W_J1_init_2_0 D d Q r0 r1 h) : JW D (d + 1) mJ1_init_2 0 [some (vR 60 r0), some (vR 64 r1)] [] h Q := by
  unfold W_J1_init_2_0 at w
  refine jw_aload_n (pc' := 1) rfl rfl ?_
  refine jw_aload_n (pc' := 2) rfl rfl ?_
  obtain ⟨g_1, w⟩ := w
  refine jw_cV (st := []) (sa := [vR 60 r0, vR 64 r1]) okJ0_init_2 rfl rfl rfl rfl rfl rfl (jstp_init (sa := [vR 64 r1]) (st := []) rfl rfl sJ0_init_2 okJ0_init_2 (lw_g (jtb_mem (c := 4) (i := 146) rfl) rfl) g_1 rfl rfl) w (fun h_2 _ _ w => ?_)
  exact jw_return rfl rfl w
def T_J1_init_2 (D : JD) (d : Nat) (Q : JO → JH → Prop) (r0 : Nat) (r1 : Nat) (h : JH) : Prop := W_J1_init_2_0 D d Q r0 r1 h
theorem t_J1_init_2 {D : JD} {d : Nat} {Q : JO → JH → Prop} {r0 : Nat} {r1 : Nat} {h : JH} (w : T_J1_init_2 D d Q r0 r1 h) : cJ1_init_2 D (d + 1) r0 r1 h Q := by
  unfold T_J1_init_2 at w
  unfold cJ1_init_2
  exact w_J1_init_2_0 w
def W_J1_init_3_0 (D : JD) (d : Nat) (Q : JO → JH → Prop) (r0 : Nat) (r1 : Nat) (r2 : Nat) (x3 : Int32) (x4 : Int32) (h : JH) : Prop :=
  r0 ≠ 0 ∧ (cJ0_init_3 D d r0 r1 r2 x3 x4 h (pV D h (fun h_2 => Q (.inl none) h_2) (jth Q)))
theorem w_J1_init_3_0 {D : JD} {d : Nat} {Q : JO → JH → Prop} {r0 : Nat} {r1 : Nat} {r2 : Nat} {x3 : Int32} {x4 : Int32} {h : JH} (w : W_J1_init_3_0 D d Q r0 r1 r2 x3 x4 h) : JW D (d + 1) mJ1_init_3 0 [some (vR 60 r0), some (vR 64 r1), some (vR 10 r2), some (vI x3), some (vI x4)] [] h Q := by
  unfold W_J1_init_3_0 at w
  refine jw_aload_n (pc' := 1) rfl rfl ?_
  refine jw_aload_n (pc' := 2) rfl rfl ?_
  refine jw_aload_n (pc' := 3) rfl rfl ?_
  refine jw_iload_n (pc' := 4) rfl rfl ?_
  refine jw_iload (pc' := 6) rfl rfl ?_
  obtain ⟨g_1, w⟩ := w
  refine jw_cV (st := []) (sa := [vR 60 r0, vR 64 r1, vR 10 r2, vI x3, vI x4]) okJ0_init_3 rfl rfl rfl rfl rfl rfl (jstp_init (sa := [vR 64 r1, vR 10 r2, vI x3, vI x4]) (st := []) rfl rfl sJ0_init_3 okJ0_init_3 (lw_g (jtb_mem (c := 15) (i := 90) rfl) rfl) g_1 rfl rfl) w (fun h_2 _ _ w => ?_)
  exact jw_return rfl rfl w
def T_J1_init_3 (D : JD) (d : Nat) (Q : JO → JH → Prop) (r0 : Nat) (r1 : Nat) (r2 : Nat) (x3 : Int32) (x4 : Int32) (h : JH) : Prop := W_J1_init_3_0 D d Q r0 r1 r2 x3 x4 h
theorem t_J1_init_3 {D : JD} {d : Nat} {Q : JO → JH → Prop} {r0 : Nat} {r1 : Nat} {r2 : Nat} {x3 : Int32} {x4 : Int32} {h : JH} (w : T_J1_init_3 D d Q r0 r1 r2 x3 x4 h) : cJ1_init_3 D (d + 1) r0 r1 r2 x3 x4 h Q := by
  unfold T_J1_init_3 at w
  unfold cJ1_init_3
  exact w_J1_init_3_0 w
def W_J10_newBytesFor_0 (D : JD) (d : Nat) (Q : JO → JH → Prop) (x0 : Int32) (h : JH) : Prop :=
  cJ10_newBytesLength D d x0 h (pI D h (fun v_3 h_1 => jsm v_3 ∧ ∀ (r_4 : Nat) (h_5 : JH), r_4 = jsz h_1 + 1 → h_5 = nwa h_1 65 (ixn v_3) → (Q (.inl (some (vR 67 r_4))) h_5)) (jth Q))
theorem w_J10_newBytesFor_0 {D : JD} {d : Nat} {Q : JO → JH → Prop} {x0 : Int32} {h : JH} (w : W_J10_newBytesFor_0 D d Q x0 h) : JW D (d + 1) mJ10_newBytesFor 0 [some (vI x0)] [] h Q := by
  unfold W_J10_newBytesFor_0 at w
  refine jw_iload_n (pc' := 1) rfl rfl ?_
  refine jw_cI (st := []) (sa := [vI x0]) okJ10_newBytesLength rfl rfl rfl rfl rfl rfl (jstp_static (sa := [vI x0]) (st := []) rfl rfl sJ10_newBytesLength okJ10_newBytesLength rfl rfl) w (fun v_3 h_1 _ _ w => ?_)
  obtain ⟨g_8, w⟩ := w
  refine jw_newa' (pc' := 6) (n := ixn v_3) (k := 65) rfl rfl rfl rfl rfl rfl (lw_g (jtb_mem (c := 1) (i := 105) rfl) rfl) g_8.ix g_8.b1 (fun r_4 h_5 e_6 e_7 => ?_)
  replace w := w r_4 h_5 e_6 e_7
  exact jw_areturn rfl rfl rfl rfl rfl w
def T_J10_newBytesFor (D : JD) (d : Nat) (Q : JO → JH → Prop) (x0 : Int32) (h : JH) : Prop := W_J10_newBytesFor_0 D d Q x0 h
theorem t_J10_newBytesFor {D : JD} {d : Nat} {Q : JO → JH → Prop} {x0 : Int32} {h : JH} (w : T_J10_newBytesFor D d Q x0 h) : cJ10_newBytesFor D (d + 1) x0 h Q := by
  unfold T_J10_newBytesFor at w
  unfold cJ10_newBytesFor
  exact w_J10_newBytesFor_0 w
def W_J10_newBytesLength_0 (D : JD) (d : Nat) (Q : JO → JH → Prop) (x0 : Int32) (h : JH) : Prop :=
  (0 ≤ x0 → (x0 < (1073741823 : Int32) → Q (.inl (some (vI (x0 <<< ((1 : Int32) &&& 31))))) h) ∧ (¬ x0 < (1073741823 : Int32) → False)) ∧ (¬ 0 ≤ x0 → False)
theorem w_J10_newBytesLength_0 {D : JD} {d : Nat} {Q : JO → JH → Prop} {x0 : Int32} {h : JH} (w : W_J10_newBytesLength_0 D d Q x0 h) : JW D (d + 1) mJ10_newBytesLength 0 [some (vI x0)] [] h Q := by
  unfold W_J10_newBytesLength_0 at w
  refine jw_iload_n (pc' := 1) rfl rfl ?_
  refine jw_if_ge (tgt := 12) (pc' := 4) rfl rfl (fun c_1 => ?_) (fun c_1 => ?_)
  · replace w := w.1 c_1
    refine jw_iload_n (pc' := 13) rfl rfl ?_
    refine jw_ldcI (pc' := 15) (v := (1073741823 : Int32)) rfl rfl (by decide +kernel) ?_
    refine jw_icmp_lt (tgt := 55) (pc' := 18) rfl rfl (fun c_2 => ?_) (fun c_2 => ?_)
    · replace w := w.1 c_2
      refine jw_iload_n (pc' := 56) rfl rfl ?_
      refine jw_iconst (pc' := 57) (x := (1 : Int32)) rfl rfl ?_
      refine jw_ishl (pc' := 58) rfl ?_
      exact jw_ireturn rfl rfl (rfl) w
    · replace w := w.2 c_2
      exact w.elim
  · replace w := w.2 c_1
    exact w.elim
def T_J10_newBytesLength (D : JD) (d : Nat) (Q : JO → JH → Prop) (x0 : Int32) (h : JH) : Prop := W_J10_newBytesLength_0 D d Q x0 h
theorem t_J10_newBytesLength {D : JD} {d : Nat} {Q : JO → JH → Prop} {x0 : Int32} {h : JH} (w : T_J10_newBytesLength D d Q x0 h) : cJ10_newBytesLength D (d + 1) x0 h Q := by
  unfold T_J10_newBytesLength at w
  unfold cJ10_newBytesLength
  exact w_J10_newBytesLength_0 w
def W_J10_inflate_10 (D : JD) (d : Nat) (Q : JO → JH → Prop) (K10 : Nat → Int32 → Nat → Int32 → Int32 → Int32 → JH → Prop) (r0 : Nat) (x1 : Int32) (r2 : Nat) (x3 : Int32) (x4 : Int32) (x5 : Int32) (h : JH) : Prop :=
  (x4 ≤ x5 → Q (.inl none) h) ∧ (¬ x4 ≤ x5 → r0 ≠ 0 ∧ jin x1 (jln h r0) ∧ (cJ10_putChar D d r2 x3 ((jai h r0 (ixn x1)) &&& (255 : Int32)) h (pV D h (fun h_4 => K10 r0 (x1 + (1 : Int32)) r2 (x3 + (1 : Int32)) x4 (x5 + (1 : Int32)) h_4) (jth Q))))
theorem w_J10_inflate_10 {D : JD} {d : Nat} {Q : JO → JH → Prop} {K10 : Nat → Int32 → Nat → Int32 → Int32 → Int32 → JH → Prop} {r0 : Nat} {x1 : Int32} {r2 : Nat} {x3 : Int32} {x4 : Int32} {x5 : Int32} {h : JH} (hK10 : ∀ (r0 : Nat) (x1 : Int32) (r2 : Nat) (x3 : Int32) (x4 : Int32) (x5 : Int32) (h : JH), K10 r0 x1 r2 x3 x4 x5 h → JW D (d + 1) mJ10_inflate 10 [some (vR 67 r0), some (vI x1), some (vR 67 r2), some (vI x3), some (vI x4), some (vI x5)] [] h Q) (w : W_J10_inflate_10 D d Q K10 r0 x1 r2 x3 x4 x5 h) : JW D (d + 1) mJ10_inflate 10 [some (vR 67 r0), some (vI x1), some (vR 67 r2), some (vI x3), some (vI x4), some (vI x5)] [] h Q := by
  unfold W_J10_inflate_10 at w
  refine jw_iload (pc' := 12) rfl rfl ?_
  refine jw_iload (pc' := 14) rfl rfl ?_
  refine jw_icmp_ge (tgt := 41) (pc' := 17) rfl rfl (fun c_1 => ?_) (fun c_1 => ?_)
  · replace w := w.1 c_1
    exact jw_return rfl rfl w
  · replace w := w.2 c_1
    refine jw_aload_n (pc' := 18) rfl rfl ?_
    refine jw_iload_n (pc' := 19) rfl rfl ?_
    refine jw_iinc (pc' := 22) (y := x3 + (1 : Int32)) (ls' := [some (vR 67 r0), some (vI x1), some (vR 67 r2), some (vI (x3 + (1 : Int32))), some (vI x4), some (vI x5)]) rfl (by decide) rfl rfl rfl ?_
    refine jw_aload_n (pc' := 23) rfl rfl ?_
    refine jw_iload_n (pc' := 24) rfl rfl ?_
    refine jw_iinc (pc' := 27) (y := x1 + (1 : Int32)) (ls' := [some (vR 67 r0), some (vI (x1 + (1 : Int32))), some (vR 67 r2), some (vI (x3 + (1 : Int32))), some (vI x4), some (vI x5)]) rfl (by decide) rfl rfl rfl ?_
    obtain ⟨g_2, w⟩ := w
    obtain ⟨g_3, w⟩ := w
    refine jw_bald (pc' := 28) rfl rfl rfl rfl g_2 g_3.ix g_3.2 ?_
    refine jw_sipush (pc' := 31) (x := (255 : Int32)) rfl rfl ?_
    refine jw_iand (pc' := 32) rfl ?_
    refine jw_cV (st := []) (sa := [vR 67 r2, vI x3, vI ((jai h r0 (ixn x1)) &&& (255 : Int32))]) okJ10_putChar rfl rfl rfl rfl rfl rfl (jstp_static (sa := [vR 67 r2, vI x3, vI ((jai h r0 (ixn x1)) &&& (255 : Int32))]) (st := []) rfl rfl sJ10_putChar okJ10_putChar rfl rfl) w (fun h_4 _ _ w => ?_)
    refine jw_iinc (pc' := 38) (y := x5 + (1 : Int32)) (ls' := [some (vR 67 r0), some (vI (x1 + (1 : Int32))), some (vR 67 r2), some (vI (x3 + (1 : Int32))), some (vI x4), some (vI (x5 + (1 : Int32)))]) rfl (by decide) rfl rfl rfl ?_
    refine jw_goto (pc' := 10) rfl rfl ?_
    exact hK10 _ _ _ _ _ _ _ w
def L_J10_inflate_10 (D : JD) (d : Nat) (Q : JO → JH → Prop) : Nat → Nat → Int32 → Nat → Int32 → Int32 → Int32 → JH → Prop
  | 0 => fun _ _ _ _ _ _ _ => False
  | n + 1 => fun r0 x1 r2 x3 x4 x5 h => W_J10_inflate_10 D d Q (L_J10_inflate_10 D d Q n) r0 x1 r2 x3 x4 x5 h
theorem l_J10_inflate_10 {D : JD} {d : Nat} {Q : JO → JH → Prop} : ∀ (n : Nat) (r0 : Nat) (x1 : Int32) (r2 : Nat) (x3 : Int32) (x4 : Int32) (x5 : Int32) (h : JH), L_J10_inflate_10 D d Q n r0 x1 r2 x3 x4 x5 h → JW D (d + 1) mJ10_inflate 10 [some (vR 67 r0), some (vI x1), some (vR 67 r2), some (vI x3), some (vI x4), some (vI x5)] [] h Q := by
  intro n
  induction n with
  | zero => intro _ _ _ _ _ _ _ w; exact w.elim
  | succ n ih => intro _ _ _ _ _ _ h w; exact w_J10_inflate_10 ih w
def W_J10_inflate_0 (D : JD) (d : Nat) (Q : JO → JH → Prop) (r0 : Nat) (x1 : Int32) (r2 : Nat) (x3 : Int32) (x4 : Int32) (h : JH) : Prop :=
  cJ10_checkBoundsOffCount D d x3 x4 r2 h (pV D h (fun h_1 => ∃ n, L_J10_inflate_10 D d Q n r0 x1 r2 x3 x4 (0 : Int32) h_1) (jth Q))
theorem w_J10_inflate_0 {D : JD} {d : Nat} {Q : JO → JH → Prop} {r0 : Nat} {x1 : Int32} {r2 : Nat} {x3 : Int32} {x4 : Int32} {h : JH} (w : W_J10_inflate_0 D d Q r0 x1 r2 x3 x4 h) : JW D (d + 1) mJ10_inflate 0 [some (vR 67 r0), some (vI x1), some (vR 67 r2), some (vI x3), some (vI x4), none] [] h Q := by
  unfold W_J10_inflate_0 at w
  refine jw_iload_n (pc' := 1) rfl rfl ?_
  refine jw_iload (pc' := 3) rfl rfl ?_
  refine jw_aload_n (pc' := 4) rfl rfl ?_
  refine jw_cV (st := []) (sa := [vI x3, vI x4, vR 67 r2]) okJ10_checkBoundsOffCount rfl rfl rfl rfl rfl rfl (jstp_static (sa := [vI x3, vI x4, vR 67 r2]) (st := []) rfl rfl sJ10_checkBoundsOffCount okJ10_checkBoundsOffCount rfl rfl) w (fun h_1 _ _ w => ?_)
  refine jw_iconst (pc' := 8) (x := (0 : Int32)) rfl rfl ?_
  refine jw_istore (pc' := 10) (ls' := [some (vR 67 r0), some (vI x1), some (vR 67 r2), some (vI x3), some (vI x4), some (vI (0 : Int32))]) rfl (by decide) rfl ?_
  obtain ⟨n, w⟩ := w
  exact l_J10_inflate_10 n _ _ _ _ _ _ _ w
def T_J10_inflate (D : JD) (d : Nat) (Q : JO → JH → Prop) (r0 : Nat) (x1 : Int32) (r2 : Nat) (x3 : Int32) (x4 : Int32) (h : JH) : Prop := W_J10_inflate_0 D d Q r0 x1 r2 x3 x4 h
theorem t_J10_inflate {D : JD} {d : Nat} {Q : JO → JH → Prop} {r0 : Nat} {x1 : Int32} {r2 : Nat} {x3 : Int32} {x4 : Int32} {h : JH} (w : T_J10_inflate D d Q r0 x1 r2 x3 x4 h) : cJ10_inflate D (d + 1) r0 x1 r2 x3 x4 h Q := by
  unfold T_J10_inflate at w
  unfold cJ10_inflate
  exact w_J10_inflate_0 w
def W_J10_checkBoundsOffCount_0 (D : JD) (d : Nat) (Q : JO → JH → Prop) (x0 : Int32) (x1 : Int32) (r2 : Nat) (h : JH) : Prop :=
  cJ10_length D d r2 h (pI D h (fun v_3 h_1 => cJ5_checkBoundsOffCount D d x0 x1 v_3 h_1 (pI D h_1 (fun v_6 h_4 => Q (.inl none) h_4) (jth Q))) (jth Q))
theorem w_J10_checkBoundsOffCount_0 {D : JD} {d : Nat} {Q : JO → JH → Prop} {x0 : Int32} {x1 : Int32} {r2 : Nat} {h : JH} (w : W_J10_checkBoundsOffCount_0 D d Q x0 x1 r2 h) : JW D (d + 1) mJ10_checkBoundsOffCount 0 [some (vI x0), some (vI x1), some (vR 67 r2)] [] h Q := by
  unfold W_J10_checkBoundsOffCount_0 at w
  refine jw_iload_n (pc' := 1) rfl rfl ?_
  refine jw_iload_n (pc' := 2) rfl rfl ?_
  refine jw_aload_n (pc' := 3) rfl rfl ?_
  refine jw_cI (st := [vI x1, vI x0]) (sa := [vR 67 r2]) okJ10_length rfl rfl rfl rfl rfl rfl (jstp_static (sa := [vR 67 r2]) (st := [vI x1, vI x0]) rfl rfl sJ10_length okJ10_length rfl rfl) w (fun v_3 h_1 _ _ w => ?_)
  refine jw_cI (st := []) (sa := [vI x0, vI x1, vI v_3]) okJ5_checkBoundsOffCount rfl rfl rfl rfl rfl rfl (jstp_static (sa := [vI x0, vI x1, vI v_3]) (st := []) rfl rfl sJ5_checkBoundsOffCount okJ5_checkBoundsOffCount rfl rfl) w (fun v_6 h_4 _ _ w => ?_)
  refine jw_pop (pc' := 10) rfl rfl ?_
  exact jw_return rfl rfl w
def T_J10_checkBoundsOffCount (D : JD) (d : Nat) (Q : JO → JH → Prop) (x0 : Int32) (x1 : Int32) (r2 : Nat) (h : JH) : Prop := W_J10_checkBoundsOffCount_0 D d Q x0 x1 r2 h
theorem t_J10_checkBoundsOffCount {D : JD} {d : Nat} {Q : JO → JH → Prop} {x0 : Int32} {x1 : Int32} {r2 : Nat} {h : JH} (w : T_J10_checkBoundsOffCount D d Q x0 x1 r2 h) : cJ10_checkBoundsOffCount D (d + 1) x0 x1 r2 h Q := by
  unfold T_J10_checkBoundsOffCount at w
  unfold cJ10_checkBoundsOffCount
  exact w_J10_checkBoundsOffCount_0 w
def W_J10_length_0 (D : JD) (d : Nat) (Q : JO → JH → Prop) (r0 : Nat) (h : JH) : Prop :=
  r0 ≠ 0 ∧ (Q (.inl (some (vI ((nI (jln h r0)) >>> ((1 : Int32) &&& 31))))) h)
theorem w_J10_length_0 {D : JD} {d : Nat} {Q : JO → JH → Prop} {r0 : Nat} {h : JH} (w : W_J10_length_0 D d Q r0 h) : JW D (d + 1) mJ10_length 0 [some (vR 67 r0)] [] h Q := by
  unfold W_J10_length_0 at w
  refine jw_aload_n (pc' := 1) rfl rfl ?_
  obtain ⟨g_1, w⟩ := w
  refine jw_alen (pc' := 2) rfl rfl g_1 ?_
  refine jw_iconst (pc' := 3) (x := (1 : Int32)) rfl rfl ?_
  refine jw_ishr (pc' := 4) rfl ?_
  exact jw_ireturn rfl rfl (rfl) w
def T_J10_length (D : JD) (d : Nat) (Q : JO → JH → Prop) (r0 : Nat) (h : JH) : Prop := W_J10_length_0 D d Q r0 h
theorem t_J10_length {D : JD} {d : Nat} {Q : JO → JH → Prop} {r0 : Nat} {h : JH} (w : T_J10_length D d Q r0 h) : cJ10_length D (d + 1) r0 h Q := by
  unfold T_J10_length at w
  unfold cJ10_length
  exact w_J10_length_0 w
def W_J10_putCharSB_0 (D : JD) (d : Nat) (Q : JO → JH → Prop) (r0 : Nat) (x1 : Int32) (x2 : Int32) (h : JH) : Prop :=
  cJ10_checkIndex D d x1 r0 h (pV D h (fun h_1 => cJ10_putChar D d r0 x1 x2 h_1 (pV D h_1 (fun h_4 => Q (.inl none) h_4) (jth Q))) (jth Q))
theorem w_J10_putCharSB_0 {D : JD} {d : Nat} {Q : JO → JH → Prop} {r0 : Nat} {x1 : Int32} {x2 : Int32} {h : JH} (w : W_J10_putCharSB_0 D d Q r0 x1 x2 h) : JW D (d + 1) mJ10_putCharSB 0 [some (vR 67 r0), some (vI x1), some (vI x2)] [] h Q := by
  unfold W_J10_putCharSB_0 at w
  refine jw_iload_n (pc' := 1) rfl rfl ?_
  refine jw_aload_n (pc' := 2) rfl rfl ?_
  refine jw_cV (st := []) (sa := [vI x1, vR 67 r0]) okJ10_checkIndex rfl rfl rfl rfl rfl rfl (jstp_static (sa := [vI x1, vR 67 r0]) (st := []) rfl rfl sJ10_checkIndex okJ10_checkIndex rfl rfl) w (fun h_1 _ _ w => ?_)
  refine jw_aload_n (pc' := 6) rfl rfl ?_
  refine jw_iload_n (pc' := 7) rfl rfl ?_
  refine jw_iload_n (pc' := 8) rfl rfl ?_
  refine jw_cV (st := []) (sa := [vR 67 r0, vI x1, vI x2]) okJ10_putChar rfl rfl rfl rfl rfl rfl (jstp_static (sa := [vR 67 r0, vI x1, vI x2]) (st := []) rfl rfl sJ10_putChar okJ10_putChar rfl rfl) w (fun h_4 _ _ w => ?_)
  exact jw_return rfl rfl w
def T_J10_putCharSB (D : JD) (d : Nat) (Q : JO → JH → Prop) (r0 : Nat) (x1 : Int32) (x2 : Int32) (h : JH) : Prop := W_J10_putCharSB_0 D d Q r0 x1 x2 h
theorem t_J10_putCharSB {D : JD} {d : Nat} {Q : JO → JH → Prop} {r0 : Nat} {x1 : Int32} {x2 : Int32} {h : JH} (w : T_J10_putCharSB D d Q r0 x1 x2 h) : cJ10_putCharSB D (d + 1) r0 x1 x2 h Q := by
  unfold T_J10_putCharSB at w
  unfold cJ10_putCharSB
  exact w_J10_putCharSB_0 w
def W_J10_checkIndex_0 (D : JD) (d : Nat) (Q : JO → JH → Prop) (x0 : Int32) (r1 : Nat) (h : JH) : Prop :=
  cJ10_length D d r1 h (pI D h (fun v_3 h_1 => cJ5_checkIndex D d x0 v_3 h_1 (pV D h_1 (fun h_4 => Q (.inl none) h_4) (jth Q))) (jth Q))
theorem w_J10_checkIndex_0 {D : JD} {d : Nat} {Q : JO → JH → Prop} {x0 : Int32} {r1 : Nat} {h : JH} (w : W_J10_checkIndex_0 D d Q x0 r1 h) : JW D (d + 1) mJ10_checkIndex 0 [some (vI x0), some (vR 67 r1)] [] h Q := by
  unfold W_J10_checkIndex_0 at w
  refine jw_iload_n (pc' := 1) rfl rfl ?_
  refine jw_aload_n (pc' := 2) rfl rfl ?_
  refine jw_cI (st := [vI x0]) (sa := [vR 67 r1]) okJ10_length rfl rfl rfl rfl rfl rfl (jstp_static (sa := [vR 67 r1]) (st := [vI x0]) rfl rfl sJ10_length okJ10_length rfl rfl) w (fun v_3 h_1 _ _ w => ?_)
  refine jw_cV (st := []) (sa := [vI x0, vI v_3]) okJ5_checkIndex rfl rfl rfl rfl rfl rfl (jstp_static (sa := [vI x0, vI v_3]) (st := []) rfl rfl sJ5_checkIndex okJ5_checkIndex rfl rfl) w (fun h_4 _ _ w => ?_)
  exact jw_return rfl rfl w
def T_J10_checkIndex (D : JD) (d : Nat) (Q : JO → JH → Prop) (x0 : Int32) (r1 : Nat) (h : JH) : Prop := W_J10_checkIndex_0 D d Q x0 r1 h
theorem t_J10_checkIndex {D : JD} {d : Nat} {Q : JO → JH → Prop} {x0 : Int32} {r1 : Nat} {h : JH} (w : T_J10_checkIndex D d Q x0 r1 h) : cJ10_checkIndex D (d + 1) x0 r1 h Q := by
  unfold T_J10_checkIndex at w
  unfold cJ10_checkIndex
  exact w_J10_checkIndex_0 w
def W_J10_getChars_34 (D : JD) (d : Nat) (Q : JO → JH → Prop) (x4 : Int32) (h : JH) : Prop :=
  Q (.inl (some (vI x4))) h
theorem w_J10_getChars_34 {D : JD} {d : Nat} {Q : JO → JH → Prop} {x4 : Int32} {h : JH} (w : W_J10_getChars_34 D d Q x4 h) : JW D (d + 1) mJ10_getChars 34 [none, none, none, none, some (vI x4)] [] h Q := by
  unfold W_J10_getChars_34 at w
  refine jw_iload (pc' := 36) rfl rfl ?_
  exact jw_ireturn rfl rfl (rfl) w
def W_J10_getChars_0 (D : JD) (d : Nat) (Q : JO → JH → Prop) (x0 : Int32) (x1 : Int32) (x2 : Int32) (r3 : Nat) (h : JH) : Prop :=
  cJ10_checkBoundsBeginEnd D d x1 x2 r3 h (pV D h (fun h_1 => cJ10_getChars_2 D d x0 x2 r3 h_1 (pI D h_1 (fun v_6 h_4 => W_J10_getChars_34 D d Q v_6 h_4) (jth Q))) (jth Q))
theorem w_J10_getChars_0 {D : JD} {d : Nat} {Q : JO → JH → Prop} {x0 : Int32} {x1 : Int32} {x2 : Int32} {r3 : Nat} {h : JH} (w : W_J10_getChars_0 D d Q x0 x1 x2 r3 h) : JW D (d + 1) mJ10_getChars 0 [some (vI x0), some (vI x1), some (vI x2), some (vR 67 r3), none] [] h Q := by
  unfold W_J10_getChars_0 at w
  refine jw_iload_n (pc' := 1) rfl rfl ?_
  refine jw_iload_n (pc' := 2) rfl rfl ?_
  refine jw_aload_n (pc' := 3) rfl rfl ?_
  refine jw_cV (st := []) (sa := [vI x1, vI x2, vR 67 r3]) okJ10_checkBoundsBeginEnd rfl rfl rfl rfl rfl rfl (jstp_static (sa := [vI x1, vI x2, vR 67 r3]) (st := []) rfl rfl sJ10_checkBoundsBeginEnd okJ10_checkBoundsBeginEnd rfl rfl) w (fun h_1 _ _ w => ?_)
  refine jw_iload_n (pc' := 7) rfl rfl ?_
  refine jw_iload_n (pc' := 8) rfl rfl ?_
  refine jw_aload_n (pc' := 9) rfl rfl ?_
  refine jw_cI (st := []) (sa := [vI x0, vI x2, vR 67 r3]) okJ10_getChars_2 rfl rfl rfl rfl rfl rfl (jstp_static (sa := [vI x0, vI x2, vR 67 r3]) (st := []) rfl rfl sJ10_getChars_2 okJ10_getChars_2 rfl rfl) w (fun v_6 h_4 _ _ w => ?_)
  refine jw_istore (pc' := 14) (ls' := [some (vI x0), some (vI x1), some (vI x2), some (vR 67 r3), some (vI v_6)]) rfl (by decide) rfl ?_
  refine jw_getsI (pc' := 17) (v := (1 : Int32)) rfl rfl (by decide +kernel) ?_
  refine jw_if_ne (tgt := 34) (pc' := 20) rfl rfl (fun _ => ?_) (fun c_7 => absurd c_7 (by decide))
  refine jw_gen (ls' := [none, none, none, none, some (vI v_6)]) (st' := []) (And.intro (Or.inl rfl) (trivial)) (trivial) ?_
  exact w_J10_getChars_34 w
def T_J10_getChars (D : JD) (d : Nat) (Q : JO → JH → Prop) (x0 : Int32) (x1 : Int32) (x2 : Int32) (r3 : Nat) (h : JH) : Prop := W_J10_getChars_0 D d Q x0 x1 x2 r3 h
theorem t_J10_getChars {D : JD} {d : Nat} {Q : JO → JH → Prop} {x0 : Int32} {x1 : Int32} {x2 : Int32} {r3 : Nat} {h : JH} (w : T_J10_getChars D d Q x0 x1 x2 r3 h) : cJ10_getChars D (d + 1) x0 x1 x2 r3 h Q := by
  unfold T_J10_getChars at w
  unfold cJ10_getChars
  exact w_J10_getChars_0 w
def W_J10_checkBoundsBeginEnd_0 (D : JD) (d : Nat) (Q : JO → JH → Prop) (x0 : Int32) (x1 : Int32) (r2 : Nat) (h : JH) : Prop :=
  cJ10_length D d r2 h (pI D h (fun v_3 h_1 => cJ5_checkBoundsBeginEnd D d x0 x1 v_3 h_1 (pV D h_1 (fun h_4 => Q (.inl none) h_4) (jth Q))) (jth Q))
theorem w_J10_checkBoundsBeginEnd_0 {D : JD} {d : Nat} {Q : JO → JH → Prop} {x0 : Int32} {x1 : Int32} {r2 : Nat} {h : JH} (w : W_J10_checkBoundsBeginEnd_0 D d Q x0 x1 r2 h) : JW D (d + 1) mJ10_checkBoundsBeginEnd 0 [some (vI x0), some (vI x1), some (vR 67 r2)] [] h Q := by
  unfold W_J10_checkBoundsBeginEnd_0 at w
  refine jw_iload_n (pc' := 1) rfl rfl ?_
  refine jw_iload_n (pc' := 2) rfl rfl ?_
  refine jw_aload_n (pc' := 3) rfl rfl ?_
  refine jw_cI (st := [vI x1, vI x0]) (sa := [vR 67 r2]) okJ10_length rfl rfl rfl rfl rfl rfl (jstp_static (sa := [vR 67 r2]) (st := [vI x1, vI x0]) rfl rfl sJ10_length okJ10_length rfl rfl) w (fun v_3 h_1 _ _ w => ?_)
  refine jw_cV (st := []) (sa := [vI x0, vI x1, vI v_3]) okJ5_checkBoundsBeginEnd rfl rfl rfl rfl rfl rfl (jstp_static (sa := [vI x0, vI x1, vI v_3]) (st := []) rfl rfl sJ5_checkBoundsBeginEnd okJ5_checkBoundsBeginEnd rfl rfl) w (fun h_4 _ _ w => ?_)
  exact jw_return rfl rfl w
def T_J10_checkBoundsBeginEnd (D : JD) (d : Nat) (Q : JO → JH → Prop) (x0 : Int32) (x1 : Int32) (r2 : Nat) (h : JH) : Prop := W_J10_checkBoundsBeginEnd_0 D d Q x0 x1 r2 h
theorem t_J10_checkBoundsBeginEnd {D : JD} {d : Nat} {Q : JO → JH → Prop} {x0 : Int32} {x1 : Int32} {r2 : Nat} {h : JH} (w : T_J10_checkBoundsBeginEnd D d Q x0 x1 r2 h) : cJ10_checkBoundsBeginEnd D (d + 1) x0 x1 r2 h Q := by
  unfold T_J10_checkBoundsBeginEnd at w
  unfold cJ10_checkBoundsBeginEnd
  exact w_J10_checkBoundsBeginEnd_0 w
def W_J10_getChars_2_128 (D : JD) (d : Nat) (Q : JO → JH → Prop) (x5 : Int32) (h : JH) : Prop :=
  Q (.inl (some (vI x5))) h
theorem w_J10_getChars_2_128 {D : JD} {d : Nat} {Q : JO → JH → Prop} {x5 : Int32} {h : JH} (w : W_J10_getChars_2_128 D d Q x5 h) : JW D (d + 1) mJ10_getChars_2 128 [none, none, none, none, none, some (vI x5), none] [] h Q := by
  unfold W_J10_getChars_2_128 at w
  refine jw_iload (pc' := 130) rfl rfl ?_
  exact jw_ireturn rfl rfl (rfl) w
def W_J10_getChars_2_112 (D : JD) (d : Nat) (Q : JO → JH → Prop) (r2 : Nat) (x5 : Int32) (x6 : Int32) (h : JH) : Prop :=
  (x6 = 0 → W_J10_getChars_2_128 D d Q x5 h) ∧ (¬ x6 = 0 → cJ10_putChar D d r2 (x5 + (-1 : Int32)) (45 : Int32) h (pV D h (fun h_2 => W_J10_getChars_2_128 D d Q (x5 + (-1 : Int32)) h_2) (jth Q)))
theorem w_J10_getChars_2_112 {D : JD} {d : Nat} {Q : JO → JH → Prop} {r2 : Nat} {x5 : Int32} {x6 : Int32} {h : JH} (w : W_J10_getChars_2_112 D d Q r2 x5 x6 h) : JW D (d + 1) mJ10_getChars_2 112 [none, none, some (vR 67 r2), none, none, some (vI x5), some (vI x6)] [] h Q := by
  unfold W_J10_getChars_2_112 at w
  refine jw_iload (pc' := 114) rfl rfl ?_
  refine jw_if_eq (tgt := 128) (pc' := 117) rfl rfl (fun c_1 => ?_) (fun c_1 => ?_)
  · replace w := w.1 c_1
    refine jw_gen (ls' := [none, none, none, none, none, some (vI x5), none]) (st' := []) (And.intro (Or.inl rfl) (trivial)) (trivial) ?_
    exact w_J10_getChars_2_128 w
  · replace w := w.2 c_1
    refine jw_aload_n (pc' := 118) rfl rfl ?_
    refine jw_iinc (pc' := 121) (y := x5 + (-1 : Int32)) (ls' := [none, none, some (vR 67 r2), none, none, some (vI (x5 + (-1 : Int32))), some (vI x6)]) rfl (by decide) rfl rfl rfl ?_
    refine jw_iload (pc' := 123) rfl rfl ?_
    refine jw_bipush (pc' := 125) (x := (45 : Int32)) rfl rfl ?_
    refine jw_cV (st := []) (sa := [vR 67 r2, vI (x5 + (-1 : Int32)), vI (45 : Int32)]) okJ10_putChar rfl rfl rfl rfl rfl rfl (jstp_static (sa := [vR 67 r2, vI (x5 + (-1 : Int32)), vI (45 : Int32)]) (st := []) rfl rfl sJ10_putChar okJ10_putChar rfl rfl) w (fun h_2 _ _ w => ?_)
    refine jw_gen (ls' := [none, none, none, none, none, some (vI (x5 + (-1 : Int32))), none]) (st' := []) (And.intro (Or.inl rfl) (trivial)) (trivial) ?_
    exact w_J10_getChars_2_128 w
def W_J10_getChars_2_22 (D : JD) (d : Nat) (Q : JO → JH → Prop) (K22 : Int32 → Nat → Int32 → Int32 → JH → Prop) (x0 : Int32) (r2 : Nat) (x5 : Int32) (x6 : Int32) (h : JH) : Prop :=
  ((-100 : Int32) < x0 → (jcs D 348) ≠ 0 ∧ jin (-x0) (jln h (jcs D 348)) ∧ (cJ10_putChar D d r2 (x5 + (-1 : Int32)) (jai h (jcs D 348) (ixn (-x0))) h (pV D h (fun h_4 => ((-9 : Int32) ≤ x0 → W_J10_getChars_2_112 D d Q r2 (x5 + (-1 : Int32)) x6 h_4) ∧ (¬ (-9 : Int32) ≤ x0 → (jcs D 349) ≠ 0 ∧ jin (-x0) (jln h_4 (jcs D 349)) ∧ (cJ10_putChar D d r2 ((x5 + (-1 : Int32)) + (-1 : Int32)) (jai h_4 (jcs D 349) (ixn (-x0))) h_4 (pV D h_4 (fun h_10 => W_J10_getChars_2_112 D d Q r2 ((x5 + (-1 : Int32)) + (-1 : Int32)) x6 h_10) (jth Q))))) (jth Q)))) ∧ (¬ (-100 : Int32) < x0 → (jcs D 348) ≠ 0 ∧ jin (((x0 / (100 : Int32)) * (100 : Int32)) - x0) (jln h (jcs D 348)) ∧ (cJ10_putChar D d r2 (x5 + (-1 : Int32)) (jai h (jcs D 348) (ixn (((x0 / (100 : Int32)) * (100 : Int32)) - x0))) h (pV D h (fun h_15 => (jcs D 349) ≠ 0 ∧ jin (((x0 / (100 : Int32)) * (100 : Int32)) - x0) (jln h_15 (jcs D 349)) ∧ (cJ10_putChar D d r2 ((x5 + (-1 : Int32)) + (-1 : Int32)) (jai h_15 (jcs D 349) (ixn (((x0 / (100 : Int32)) * (100 : Int32)) - x0))) h_15 (pV D h_15 (fun h_20 => K22 (x0 / (100 : Int32)) r2 ((x5 + (-1 : Int32)) + (-1 : Int32)) x6 h_20) (jth Q)))) (jth Q))))
theorem w_J10_getChars_2_22 {D : JD} {d : Nat} {Q : JO → JH → Prop} {K22 : Int32 → Nat → Int32 → Int32 → JH → Prop} {x0 : Int32} {r2 : Nat} {x5 : Int32} {x6 : Int32} {h : JH} (hK22 : ∀ (x0 : Int32) (r2 : Nat) (x5 : Int32) (x6 : Int32) (h : JH), K22 x0 r2 x5 x6 h → JW D (d + 1) mJ10_getChars_2 22 [some (vI x0), none, some (vR 67 r2), none, none, some (vI x5), some (vI x6)] [] h Q) (w : W_J10_getChars_2_22 D d Q K22 x0 r2 x5 x6 h) : JW D (d + 1) mJ10_getChars_2 22 [some (vI x0), none, some (vR 67 r2), none, none, some (vI x5), some (vI x6)] [] h Q := by
  unfold W_J10_getChars_2_22 at w
  refine jw_iload_n (pc' := 23) rfl rfl ?_
  refine jw_bipush (pc' := 25) (x := (-100 : Int32)) rfl rfl ?_
  refine jw_icmp_gt (tgt := 76) (pc' := 28) rfl rfl (fun c_1 => ?_) (fun c_1 => ?_)
  · replace w := w.1 c_1
    refine jw_aload_n (pc' := 77) rfl rfl ?_
    refine jw_iinc (pc' := 80) (y := x5 + (-1 : Int32)) (ls' := [some (vI x0), none, some (vR 67 r2), none, none, some (vI (x5 + (-1 : Int32))), some (vI x6)]) rfl (by decide) rfl rfl rfl ?_
    refine jw_iload (pc' := 82) rfl rfl ?_
    refine jw_getsR (pc' := 85) rfl rfl rfl rfl ?_
    refine jw_iload_n (pc' := 86) rfl rfl ?_
    refine jw_ineg (pc' := 87) rfl ?_
    obtain ⟨g_2, w⟩ := w
    obtain ⟨g_3, w⟩ := w
    refine jw_bald (pc' := 88) rfl rfl rfl rfl g_2 g_3.ix g_3.2 ?_
    refine jw_cV (st := []) (sa := [vR 67 r2, vI (x5 + (-1 : Int32)), vI (jai h (jcs D 348) (ixn (-x0)))]) okJ10_putChar rfl rfl rfl rfl rfl rfl (jstp_static (sa := [vR 67 r2, vI (x5 + (-1 : Int32)), vI (jai h (jcs D 348) (ixn (-x0)))]) (st := []) rfl rfl sJ10_putChar okJ10_putChar rfl rfl) w (fun h_4 _ _ w => ?_)
    refine jw_iload_n (pc' := 92) rfl rfl ?_
    refine jw_bipush (pc' := 94) (x := (-9 : Int32)) rfl rfl ?_
    refine jw_icmp_ge (tgt := 112) (pc' := 97) rfl rfl (fun c_7 => ?_) (fun c_7 => ?_)
    · replace w := w.1 c_7
      refine jw_gen (ls' := [none, none, some (vR 67 r2), none, none, some (vI (x5 + (-1 : Int32))), some (vI x6)]) (st' := []) (And.intro (Or.inl rfl) (And.intro (Or.inl rfl) (And.intro (Or.inl rfl) (trivial)))) (trivial) ?_
      exact w_J10_getChars_2_112 w
    · replace w := w.2 c_7
      refine jw_aload_n (pc' := 98) rfl rfl ?_
      refine jw_iinc (pc' := 101) (y := (x5 + (-1 : Int32)) + (-1 : Int32)) (ls' := [some (vI x0), none, some (vR 67 r2), none, none, some (vI ((x5 + (-1 : Int32)) + (-1 : Int32))), some (vI x6)]) rfl (by decide) rfl rfl rfl ?_
      refine jw_iload (pc' := 103) rfl rfl ?_
      refine jw_getsR (pc' := 106) rfl rfl rfl rfl ?_
      refine jw_iload_n (pc' := 107) rfl rfl ?_
      refine jw_ineg (pc' := 108) rfl ?_
      obtain ⟨g_8, w⟩ := w
      obtain ⟨g_9, w⟩ := w
      refine jw_bald (pc' := 109) rfl rfl rfl rfl g_8 g_9.ix g_9.2 ?_
      refine jw_cV (st := []) (sa := [vR 67 r2, vI ((x5 + (-1 : Int32)) + (-1 : Int32)), vI (jai h_4 (jcs D 349) (ixn (-x0)))]) okJ10_putChar rfl rfl rfl rfl rfl rfl (jstp_static (sa := [vR 67 r2, vI ((x5 + (-1 : Int32)) + (-1 : Int32)), vI (jai h_4 (jcs D 349) (ixn (-x0)))]) (st := []) rfl rfl sJ10_putChar okJ10_putChar rfl rfl) w (fun h_10 _ _ w => ?_)
      refine jw_gen (ls' := [none, none, some (vR 67 r2), none, none, some (vI ((x5 + (-1 : Int32)) + (-1 : Int32))), some (vI x6)]) (st' := []) (And.intro (Or.inl rfl) (And.intro (Or.inl rfl) (And.intro (Or.inl rfl) (trivial)))) (trivial) ?_
      exact w_J10_getChars_2_112 w
  · replace w := w.2 c_1
    refine jw_iload_n (pc' := 29) rfl rfl ?_
    refine jw_bipush (pc' := 31) (x := (100 : Int32)) rfl rfl ?_
    refine jw_idiv (pc' := 32) rfl (by decide) ?_
    refine jw_istore_n (pc' := 33) (ls' := [some (vI x0), none, some (vR 67 r2), some (vI (x0 / (100 : Int32))), none, some (vI x5), some (vI x6)]) rfl (by decide) rfl ?_
    refine jw_iload_n (pc' := 34) rfl rfl ?_
    refine jw_bipush (pc' := 36) (x := (100 : Int32)) rfl rfl ?_
    refine jw_imul (pc' := 37) rfl ?_
    refine jw_iload_n (pc' := 38) rfl rfl ?_
    refine jw_isub (pc' := 39) rfl ?_
    refine jw_istore (pc' := 41) (ls' := [some (vI x0), none, some (vR 67 r2), some (vI (x0 / (100 : Int32))), some (vI (((x0 / (100 : Int32)) * (100 : Int32)) - x0)), some (vI x5), some (vI x6)]) rfl (by decide) rfl ?_
    refine jw_iload_n (pc' := 42) rfl rfl ?_
    refine jw_istore_n (pc' := 43) (ls' := [some (vI (x0 / (100 : Int32))), none, some (vR 67 r2), some (vI (x0 / (100 : Int32))), some (vI (((x0 / (100 : Int32)) * (100 : Int32)) - x0)), some (vI x5), some (vI x6)]) rfl (by decide) rfl ?_
    refine jw_aload_n (pc' := 44) rfl rfl ?_
    refine jw_iinc (pc' := 47) (y := x5 + (-1 : Int32)) (ls' := [some (vI (x0 / (100 : Int32))), none, some (vR 67 r2), some (vI (x0 / (100 : Int32))), some (vI (((x0 / (100 : Int32)) * (100 : Int32)) - x0)), some (vI (x5 + (-1 : Int32))), some (vI x6)]) rfl (by decide) rfl rfl rfl ?_
    refine jw_iload (pc' := 49) rfl rfl ?_
    refine jw_getsR (pc' := 52) rfl rfl rfl rfl ?_
    refine jw_iload (pc' := 54) rfl rfl ?_
    obtain ⟨g_13, w⟩ := w
    obtain ⟨g_14, w⟩ := w
    refine jw_bald (pc' := 55) rfl rfl rfl rfl g_13 g_14.ix g_14.2 ?_
    refine jw_cV (st := []) (sa := [vR 67 r2, vI (x5 + (-1 : Int32)), vI (jai h (jcs D 348) (ixn (((x0 / (100 : Int32)) * (100 : Int32)) - x0)))]) okJ10_putChar rfl rfl rfl rfl rfl rfl (jstp_static (sa := [vR 67 r2, vI (x5 + (-1 : Int32)), vI (jai h (jcs D 348) (ixn (((x0 / (100 : Int32)) * (100 : Int32)) - x0)))]) (st := []) rfl rfl sJ10_putChar okJ10_putChar rfl rfl) w (fun h_15 _ _ w => ?_)
    refine jw_aload_n (pc' := 59) rfl rfl ?_
    refine jw_iinc (pc' := 62) (y := (x5 + (-1 : Int32)) + (-1 : Int32)) (ls' := [some (vI (x0 / (100 : Int32))), none, some (vR 67 r2), some (vI (x0 / (100 : Int32))), some (vI (((x0 / (100 : Int32)) * (100 : Int32)) - x0)), some (vI ((x5 + (-1 : Int32)) + (-1 : Int32))), some (vI x6)]) rfl (by decide) rfl rfl rfl ?_
    refine jw_iload (pc' := 64) rfl rfl ?_
    refine jw_getsR (pc' := 67) rfl rfl rfl rfl ?_
    refine jw_iload (pc' := 69) rfl rfl ?_
    obtain ⟨g_18, w⟩ := w
    obtain ⟨g_19, w⟩ := w
    refine jw_bald (pc' := 70) rfl rfl rfl rfl g_18 g_19.ix g_19.2 ?_
    refine jw_cV (st := []) (sa := [vR 67 r2, vI ((x5 + (-1 : Int32)) + (-1 : Int32)), vI (jai h_15 (jcs D 349) (ixn (((x0 / (100 : Int32)) * (100 : Int32)) - x0)))]) okJ10_putChar rfl rfl rfl rfl rfl rfl (jstp_static (sa := [vR 67 r2, vI ((x5 + (-1 : Int32)) + (-1 : Int32)), vI (jai h_15 (jcs D 349) (ixn (((x0 / (100 : Int32)) * (100 : Int32)) - x0)))]) (st := []) rfl rfl sJ10_putChar okJ10_putChar rfl rfl) w (fun h_20 _ _ w => ?_)
    refine jw_goto (pc' := 22) rfl rfl ?_
    refine jw_gen (ls' := [some (vI (x0 / (100 : Int32))), none, some (vR 67 r2), none, none, some (vI ((x5 + (-1 : Int32)) + (-1 : Int32))), some (vI x6)]) (st' := []) (And.intro (Or.inl rfl) (And.intro (Or.inl rfl) (And.intro (Or.inl rfl) (And.intro (Or.inl rfl) (trivial))))) (trivial) ?_
    exact hK22 _ _ _ _ _ w
def L_J10_getChars_2_22 (D : JD) (d : Nat) (Q : JO → JH → Prop) : Nat → Int32 → Nat → Int32 → Int32 → JH → Prop
  | 0 => fun _ _ _ _ _ => False
  | n + 1 => fun x0 r2 x5 x6 h => W_J10_getChars_2_22 D d Q (L_J10_getChars_2_22 D d Q n) x0 r2 x5 x6 h
theorem l_J10_getChars_2_22 {D : JD} {d : Nat} {Q : JO → JH → Prop} : ∀ (n : Nat) (x0 : Int32) (r2 : Nat) (x5 : Int32) (x6 : Int32) (h : JH), L_J10_getChars_2_22 D d Q n x0 r2 x5 x6 h → JW D (d + 1) mJ10_getChars_2 22 [some (vI x0), none, some (vR 67 r2), none, none, some (vI x5), some (vI x6)] [] h Q := by
  intro n
  induction n with
  | zero => intro _ _ _ _ _ w; exact w.elim
  | succ n ih => intro _ _ _ _ h w; exact w_J10_getChars_2_22 ih w
def W_J10_getChars_2_12 (D : JD) (d : Nat) (Q : JO → JH → Prop) (x0 : Int32) (r2 : Nat) (x5 : Int32) (s0 : Int32) (h : JH) : Prop :=
  (¬ s0 = 0 → ∃ n, L_J10_getChars_2_22 D d Q n x0 r2 x5 s0 h) ∧ (s0 = 0 → ∃ n, L_J10_getChars_2_22 D d Q n (-x0) r2 x5 s0 h)
theorem w_J10_getChars_2_12 {D : JD} {d : Nat} {Q : JO → JH → Prop} {x0 : Int32} {r2 : Nat} {x5 : Int32} {s0 : Int32} {h : JH} (w : W_J10_getChars_2_12 D d Q x0 r2 x5 s0 h) : JW D (d + 1) mJ10_getChars_2 12 [some (vI x0), none, some (vR 67 r2), none, none, some (vI x5), none] [vI s0] h Q := by
  unfold W_J10_getChars_2_12 at w
  refine jw_istore (pc' := 14) (ls' := [some (vI x0), none, some (vR 67 r2), none, none, some (vI x5), some (vI s0)]) rfl (by decide) rfl ?_
  refine jw_iload (pc' := 16) rfl rfl ?_
  refine jw_if_ne (tgt := 22) (pc' := 19) rfl rfl (fun c_1 => ?_) (fun c_1 => ?_)
  · replace w := w.1 c_1
    obtain ⟨n, w⟩ := w
    exact l_J10_getChars_2_22 n _ _ _ _ _ w
  · replace w := w.2 c_1
    refine jw_iload_n (pc' := 20) rfl rfl ?_
    refine jw_ineg (pc' := 21) rfl ?_
    refine jw_istore_n (pc' := 22) (ls' := [some (vI (-x0)), none, some (vR 67 r2), none, none, some (vI x5), some (vI s0)]) rfl (by decide) rfl ?_
    obtain ⟨n, w⟩ := w
    exact l_J10_getChars_2_22 n _ _ _ _ _ w
def W_J10_getChars_2_0 (D : JD) (d : Nat) (Q : JO → JH → Prop) (x0 : Int32) (x1 : Int32) (r2 : Nat) (h : JH) : Prop :=
  (0 ≤ x0 → W_J10_getChars_2_12 D d Q x0 r2 x1 (0 : Int32) h) ∧ (¬ 0 ≤ x0 → W_J10_getChars_2_12 D d Q x0 r2 x1 (1 : Int32) h)
theorem w_J10_getChars_2_0 {D : JD} {d : Nat} {Q : JO → JH → Prop} {x0 : Int32} {x1 : Int32} {r2 : Nat} {h : JH} (w : W_J10_getChars_2_0 D d Q x0 x1 r2 h) : JW D (d + 1) mJ10_getChars_2 0 [some (vI x0), some (vI x1), some (vR 67 r2), none, none, none, none] [] h Q := by
  unfold W_J10_getChars_2_0 at w
  refine jw_iload_n (pc' := 1) rfl rfl ?_
  refine jw_istore (pc' := 3) (ls' := [some (vI x0), some (vI x1), some (vR 67 r2), none, none, some (vI x1), none]) rfl (by decide) rfl ?_
  refine jw_iload_n (pc' := 4) rfl rfl ?_
  refine jw_if_ge (tgt := 11) (pc' := 7) rfl rfl (fun c_1 => ?_) (fun c_1 => ?_)
  · replace w := w.1 c_1
    refine jw_iconst (pc' := 12) (x := (0 : Int32)) rfl rfl ?_
    refine jw_gen (ls' := [some (vI x0), none, some (vR 67 r2), none, none, some (vI x1), none]) (st' := [vI (0 : Int32)]) (And.intro (Or.inl rfl) (And.intro (Or.inl rfl) (And.intro (Or.inl rfl) (trivial)))) (And.intro (Or.inl rfl) (trivial)) ?_
    exact w_J10_getChars_2_12 w
  · replace w := w.2 c_1
    refine jw_iconst (pc' := 8) (x := (1 : Int32)) rfl rfl ?_
    refine jw_goto (pc' := 12) rfl rfl ?_
    refine jw_gen (ls' := [some (vI x0), none, some (vR 67 r2), none, none, some (vI x1), none]) (st' := [vI (1 : Int32)]) (And.intro (Or.inl rfl) (And.intro (Or.inl rfl) (And.intro (Or.inl rfl) (trivial)))) (And.intro (Or.inl rfl) (trivial)) ?_
    exact w_J10_getChars_2_12 w
def T_J10_getChars_2 (D : JD) (d : Nat) (Q : JO → JH → Prop) (x0 : Int32) (x1 : Int32) (r2 : Nat) (h : JH) : Prop := W_J10_getChars_2_0 D d Q x0 x1 r2 h
theorem t_J10_getChars_2 {D : JD} {d : Nat} {Q : JO → JH → Prop} {x0 : Int32} {x1 : Int32} {r2 : Nat} {h : JH} (w : T_J10_getChars_2 D d Q x0 x1 r2 h) : cJ10_getChars_2 D (d + 1) x0 x1 r2 h Q := by
  unfold T_J10_getChars_2 at w
  unfold cJ10_getChars_2
  exact w_J10_getChars_2_0 w
def W_J10_putCharsAt_70 (D : JD) (d : Nat) (Q : JO → JH → Prop) (x6 : Int32) (h : JH) : Prop :=
  Q (.inl (some (vI x6))) h
theorem w_J10_putCharsAt_70 {D : JD} {d : Nat} {Q : JO → JH → Prop} {x6 : Int32} {h : JH} (w : W_J10_putCharsAt_70 D d Q x6 h) : JW D (d + 1) mJ10_putCharsAt 70 [none, none, none, none, none, none, some (vI x6)] [] h Q := by
  unfold W_J10_putCharsAt_70 at w
  refine jw_iload (pc' := 72) rfl rfl ?_
  exact jw_ireturn rfl rfl (rfl) w
def W_J10_putCharsAt_0 (D : JD) (d : Nat) (Q : JO → JH → Prop) (r0 : Nat) (x1 : Int32) (x2 : Int32) (x3 : Int32) (x4 : Int32) (x5 : Int32) (h : JH) : Prop :=
  cJ10_checkBoundsBeginEnd D d x1 (x1 + (4 : Int32)) r0 h (pV D h (fun h_1 => cJ10_putChar D d r0 x1 x2 h_1 (pV D h_1 (fun h_4 => cJ10_putChar D d r0 (x1 + (1 : Int32)) x3 h_4 (pV D h_4 (fun h_7 => cJ10_putChar D d r0 ((x1 + (1 : Int32)) + (1 : Int32)) x4 h_7 (pV D h_7 (fun h_10 => cJ10_putChar D d r0 (((x1 + (1 : Int32)) + (1 : Int32)) + (1 : Int32)) x5 h_10 (pV D h_10 (fun h_13 => W_J10_putCharsAt_70 D d Q (x1 + (4 : Int32)) h_13) (jth Q))) (jth Q))) (jth Q))) (jth Q))) (jth Q))
theorem w_J10_putCharsAt_0 {D : JD} {d : Nat} {Q : JO → JH → Prop} {r0 : Nat} {x1 : Int32} {x2 : Int32} {x3 : Int32} {x4 : Int32} {x5 : Int32} {h : JH} (w : W_J10_putCharsAt_0 D d Q r0 x1 x2 x3 x4 x5 h) : JW D (d + 1) mJ10_putCharsAt 0 [some (vR 67 r0), some (vI x1), some (vI x2), some (vI x3), some (vI x4), some (vI x5), none] [] h Q := by
  unfold W_J10_putCharsAt_0 at w
  refine jw_iload_n (pc' := 1) rfl rfl ?_
  refine jw_iconst (pc' := 2) (x := (4 : Int32)) rfl rfl ?_
  refine jw_iadd (pc' := 3) rfl ?_
  refine jw_istore (pc' := 5) (ls' := [some (vR 67 r0), some (vI x1), some (vI x2), some (vI x3), some (vI x4), some (vI x5), some (vI (x1 + (4 : Int32)))]) rfl (by decide) rfl ?_
  refine jw_iload_n (pc' := 6) rfl rfl ?_
  refine jw_iload (pc' := 8) rfl rfl ?_
  refine jw_aload_n (pc' := 9) rfl rfl ?_
  refine jw_cV (st := []) (sa := [vI x1, vI (x1 + (4 : Int32)), vR 67 r0]) okJ10_checkBoundsBeginEnd rfl rfl rfl rfl rfl rfl (jstp_static (sa := [vI x1, vI (x1 + (4 : Int32)), vR 67 r0]) (st := []) rfl rfl sJ10_checkBoundsBeginEnd okJ10_checkBoundsBeginEnd rfl rfl) w (fun h_1 _ _ w => ?_)
  refine jw_aload_n (pc' := 13) rfl rfl ?_
  refine jw_iload_n (pc' := 14) rfl rfl ?_
  refine jw_iinc (pc' := 17) (y := x1 + (1 : Int32)) (ls' := [some (vR 67 r0), some (vI (x1 + (1 : Int32))), some (vI x2), some (vI x3), some (vI x4), some (vI x5), some (vI (x1 + (4 : Int32)))]) rfl (by decide) rfl rfl rfl ?_
  refine jw_iload_n (pc' := 18) rfl rfl ?_
  refine jw_cV (st := []) (sa := [vR 67 r0, vI x1, vI x2]) okJ10_putChar rfl rfl rfl rfl rfl rfl (jstp_static (sa := [vR 67 r0, vI x1, vI x2]) (st := []) rfl rfl sJ10_putChar okJ10_putChar rfl rfl) w (fun h_4 _ _ w => ?_)
  refine jw_aload_n (pc' := 22) rfl rfl ?_
  refine jw_iload_n (pc' := 23) rfl rfl ?_
  refine jw_iinc (pc' := 26) (y := (x1 + (1 : Int32)) + (1 : Int32)) (ls' := [some (vR 67 r0), some (vI ((x1 + (1 : Int32)) + (1 : Int32))), some (vI x2), some (vI x3), some (vI x4), some (vI x5), some (vI (x1 + (4 : Int32)))]) rfl (by decide) rfl rfl rfl ?_
  refine jw_iload_n (pc' := 27) rfl rfl ?_
  refine jw_cV (st := []) (sa := [vR 67 r0, vI (x1 + (1 : Int32)), vI x3]) okJ10_putChar rfl rfl rfl rfl rfl rfl (jstp_static (sa := [vR 67 r0, vI (x1 + (1 : Int32)), vI x3]) (st := []) rfl rfl sJ10_putChar okJ10_putChar rfl rfl) w (fun h_7 _ _ w => ?_)
  refine jw_aload_n (pc' := 31) rfl rfl ?_
  refine jw_iload_n (pc' := 32) rfl rfl ?_
  refine jw_iinc (pc' := 35) (y := ((x1 + (1 : Int32)) + (1 : Int32)) + (1 : Int32)) (ls' := [some (vR 67 r0), some (vI (((x1 + (1 : Int32)) + (1 : Int32)) + (1 : Int32))), some (vI x2), some (vI x3), some (vI x4), some (vI x5), some (vI (x1 + (4 : Int32)))]) rfl (by decide) rfl rfl rfl ?_
  refine jw_iload (pc' := 37) rfl rfl ?_
  refine jw_cV (st := []) (sa := [vR 67 r0, vI ((x1 + (1 : Int32)) + (1 : Int32)), vI x4]) okJ10_putChar rfl rfl rfl rfl rfl rfl (jstp_static (sa := [vR 67 r0, vI ((x1 + (1 : Int32)) + (1 : Int32)), vI x4]) (st := []) rfl rfl sJ10_putChar okJ10_putChar rfl rfl) w (fun h_10 _ _ w => ?_)
  refine jw_aload_n (pc' := 41) rfl rfl ?_
  refine jw_iload_n (pc' := 42) rfl rfl ?_
  refine jw_iinc (pc' := 45) (y := (((x1 + (1 : Int32)) + (1 : Int32)) + (1 : Int32)) + (1 : Int32)) (ls' := [some (vR 67 r0), some (vI ((((x1 + (1 : Int32)) + (1 : Int32)) + (1 : Int32)) + (1 : Int32))), some (vI x2), some (vI x3), some (vI x4), some (vI x5), some (vI (x1 + (4 : Int32)))]) rfl (by decide) rfl rfl rfl ?_
  refine jw_iload (pc' := 47) rfl rfl ?_
  refine jw_cV (st := []) (sa := [vR 67 r0, vI (((x1 + (1 : Int32)) + (1 : Int32)) + (1 : Int32)), vI x5]) okJ10_putChar rfl rfl rfl rfl rfl rfl (jstp_static (sa := [vR 67 r0, vI (((x1 + (1 : Int32)) + (1 : Int32)) + (1 : Int32)), vI x5]) (st := []) rfl rfl sJ10_putChar okJ10_putChar rfl rfl) w (fun h_13 _ _ w => ?_)
  refine jw_getsI (pc' := 53) (v := (1 : Int32)) rfl rfl (by decide +kernel) ?_
  refine jw_if_ne (tgt := 70) (pc' := 56) rfl rfl (fun _ => ?_) (fun c_16 => absurd c_16 (by decide))
  refine jw_gen (ls' := [none, none, none, none, none, none, some (vI (x1 + (4 : Int32)))]) (st' := []) (And.intro (Or.inl rfl) (trivial)) (trivial) ?_
  exact w_J10_putCharsAt_70 w
def T_J10_putCharsAt (D : JD) (d : Nat) (Q : JO → JH → Prop) (r0 : Nat) (x1 : Int32) (x2 : Int32) (x3 : Int32) (x4 : Int32) (x5 : Int32) (h : JH) : Prop := W_J10_putCharsAt_0 D d Q r0 x1 x2 x3 x4 x5 h
theorem t_J10_putCharsAt {D : JD} {d : Nat} {Q : JO → JH → Prop} {r0 : Nat} {x1 : Int32} {x2 : Int32} {x3 : Int32} {x4 : Int32} {x5 : Int32} {h : JH} (w : T_J10_putCharsAt D d Q r0 x1 x2 x3 x4 x5 h) : cJ10_putCharsAt D (d + 1) r0 x1 x2 x3 x4 x5 h Q := by
  unfold T_J10_putCharsAt at w
  unfold cJ10_putCharsAt
  exact w_J10_putCharsAt_0 w
def W_J10_compress_64 (D : JD) (d : Nat) (Q : JO → JH → Prop) (r3 : Nat) (h : JH) : Prop :=
  Q (.inl (some (vR 67 r3))) h
theorem w_J10_compress_64 {D : JD} {d : Nat} {Q : JO → JH → Prop} {r3 : Nat} {h : JH} (w : W_J10_compress_64 D d Q r3 h) : JW D (d + 1) mJ10_compress 64 [none, none, none, some (vR 65 r3), none, none] [] h Q := by
  unfold W_J10_compress_64 at w
  refine jw_aload_n (pc' := 65) rfl rfl ?_
  exact jw_areturn rfl rfl rfl rfl rfl w
def W_J10_compress_61 (D : JD) (d : Nat) (Q : JO → JH → Prop) (r5 : Nat) (h : JH) : Prop :=
  Q (.inl (some (vR 67 r5))) h
theorem w_J10_compress_61 {D : JD} {d : Nat} {Q : JO → JH → Prop} {r5 : Nat} {h : JH} (w : W_J10_compress_61 D d Q r5 h) : JW D (d + 1) mJ10_compress 61 [none, none, none, none, none, some (vR 67 r5)] [] h Q := by
  unfold W_J10_compress_61 at w
  refine jw_aload (pc' := 63) rfl rfl ?_
  exact jw_areturn rfl rfl rfl rfl rfl w
def W_J10_compress_0 (D : JD) (d : Nat) (Q : JO → JH → Prop) (r0 : Nat) (x1 : Int32) (x2 : Int32) (h : JH) : Prop :=
  jsm x2 ∧ ∀ (r_1 : Nat) (h_2 : JH), r_1 = jsz h + 1 → h_2 = nwa h 65 (ixn x2) → (cJ10_compress_2 D d r0 x1 r_1 (0 : Int32) x2 h_2 (pI D h_2 (fun v_8 h_6 => (v_8 = x2 → W_J10_compress_64 D d Q r_1 h_6) ∧ (¬ v_8 = x2 → cJ10_newBytesLength D d (x1 + x2) h_6 (pI D h_6 (fun v_12 h_10 => cJ16_copyOfRange D d r0 (x1 <<< ((1 : Int32) &&& 31)) v_12 h_10 (pR D h_10 67 (fun v_15 h_13 => cJ10_getChar D d v_15 v_8 h_13 (pI D h_13 (fun v_18 h_16 => ((255 : Int32) < v_18 → W_J10_compress_61 D d Q v_15 h_16) ∧ (¬ (255 : Int32) < v_18 → cJ10_compress_2 D d v_15 (0 : Int32) r_1 (0 : Int32) x2 h_16 (pI D h_16 (fun v_22 h_20 => (v_22 = x2 → W_J10_compress_64 D d Q r_1 h_20) ∧ (¬ v_22 = x2 → W_J10_compress_61 D d Q v_15 h_20)) (jth Q)))) (jth Q))) (jth Q))) (jth Q)))) (jth Q)))
theorem w_J10_compress_0 {D : JD} {d : Nat} {Q : JO → JH → Prop} {r0 : Nat} {x1 : Int32} {x2 : Int32} {h : JH} (w : W_J10_compress_0 D d Q r0 x1 x2 h) : JW D (d + 1) mJ10_compress 0 [some (vR 67 r0), some (vI x1), some (vI x2), none, none, none] [] h Q := by
  unfold W_J10_compress_0 at w
  refine jw_iload_n (pc' := 1) rfl rfl ?_
  obtain ⟨g_5, w⟩ := w
  refine jw_newa' (pc' := 3) (n := ixn x2) (k := 65) rfl rfl rfl rfl rfl rfl (lw_g (jtb_mem (c := 1) (i := 105) rfl) rfl) g_5.ix g_5.b1 (fun r_1 h_2 e_3 e_4 => ?_)
  replace w := w r_1 h_2 e_3 e_4
  refine jw_astore_n (pc' := 4) (ls' := [some (vR 67 r0), some (vI x1), some (vI x2), some (vR 65 r_1), none, none]) rfl (by decide) rfl ?_
  refine jw_aload_n (pc' := 5) rfl rfl ?_
  refine jw_iload_n (pc' := 6) rfl rfl ?_
  refine jw_aload_n (pc' := 7) rfl rfl ?_
  refine jw_iconst (pc' := 8) (x := (0 : Int32)) rfl rfl ?_
  refine jw_iload_n (pc' := 9) rfl rfl ?_
  refine jw_cI (st := []) (sa := [vR 67 r0, vI x1, vR 65 r_1, vI (0 : Int32), vI x2]) okJ10_compress_2 rfl rfl rfl rfl rfl rfl (jstp_static (sa := [vR 67 r0, vI x1, vR 65 r_1, vI (0 : Int32), vI x2]) (st := []) rfl rfl sJ10_compress_2 okJ10_compress_2 rfl rfl) w (fun v_8 h_6 _ _ w => ?_)
  refine jw_istore (pc' := 14) (ls' := [some (vR 67 r0), some (vI x1), some (vI x2), some (vR 65 r_1), some (vI v_8), none]) rfl (by decide) rfl ?_
  refine jw_iload (pc' := 16) rfl rfl ?_
  refine jw_iload_n (pc' := 17) rfl rfl ?_
  refine jw_icmp_eq (tgt := 64) (pc' := 20) rfl rfl (fun c_9 => ?_) (fun c_9 => ?_)
  · replace w := w.1 c_9
    refine jw_gen (ls' := [none, none, none, some (vR 65 r_1), none, none]) (st' := []) (And.intro (Or.inl rfl) (trivial)) (trivial) ?_
    exact w_J10_compress_64 w
  · replace w := w.2 c_9
    refine jw_aload_n (pc' := 21) rfl rfl ?_
    refine jw_iload_n (pc' := 22) rfl rfl ?_
    refine jw_iconst (pc' := 23) (x := (1 : Int32)) rfl rfl ?_
    refine jw_ishl (pc' := 24) rfl ?_
    refine jw_iload_n (pc' := 25) rfl rfl ?_
    refine jw_iload_n (pc' := 26) rfl rfl ?_
    refine jw_iadd (pc' := 27) rfl ?_
    refine jw_cI (st := [vI (x1 <<< ((1 : Int32) &&& 31)), vR 67 r0]) (sa := [vI (x1 + x2)]) okJ10_newBytesLength rfl rfl rfl rfl rfl rfl (jstp_static (sa := [vI (x1 + x2)]) (st := [vI (x1 <<< ((1 : Int32) &&& 31)), vR 67 r0]) rfl rfl sJ10_newBytesLength okJ10_newBytesLength rfl rfl) w (fun v_12 h_10 _ _ w => ?_)
    refine jw_cR (st := []) (sa := [vR 67 r0, vI (x1 <<< ((1 : Int32) &&& 31)), vI v_12]) okJ16_copyOfRange rfl rfl rfl rfl rfl rfl (jstp_static (sa := [vR 67 r0, vI (x1 <<< ((1 : Int32) &&& 31)), vI v_12]) (st := []) rfl rfl sJ16_copyOfRange okJ16_copyOfRange rfl rfl) w (fun v_15 h_13 _ _ _ w => ?_)
    refine jw_astore (pc' := 35) (ls' := [some (vR 67 r0), some (vI x1), some (vI x2), some (vR 65 r_1), some (vI v_8), some (vR 67 v_15)]) rfl (by decide) rfl ?_
    refine jw_aload (pc' := 37) rfl rfl ?_
    refine jw_iload (pc' := 39) rfl rfl ?_
    refine jw_cI (st := []) (sa := [vR 67 v_15, vI v_8]) okJ10_getChar rfl rfl rfl rfl rfl rfl (jstp_static (sa := [vR 67 v_15, vI v_8]) (st := []) rfl rfl sJ10_getChar okJ10_getChar rfl rfl) w (fun v_18 h_16 _ _ w => ?_)
    refine jw_sipush (pc' := 45) (x := (255 : Int32)) rfl rfl ?_
    refine jw_icmp_gt (tgt := 61) (pc' := 48) rfl rfl (fun c_19 => ?_) (fun c_19 => ?_)
    · replace w := w.1 c_19
      refine jw_gen (ls' := [none, none, none, none, none, some (vR 67 v_15)]) (st' := []) (And.intro (Or.inl rfl) (trivial)) (trivial) ?_
      exact w_J10_compress_61 w
    · replace w := w.2 c_19
      refine jw_aload (pc' := 50) rfl rfl ?_
      refine jw_iconst (pc' := 51) (x := (0 : Int32)) rfl rfl ?_
      refine jw_aload_n (pc' := 52) rfl rfl ?_
      refine jw_iconst (pc' := 53) (x := (0 : Int32)) rfl rfl ?_
      refine jw_iload_n (pc' := 54) rfl rfl ?_
      refine jw_cI (st := []) (sa := [vR 67 v_15, vI (0 : Int32), vR 65 r_1, vI (0 : Int32), vI x2]) okJ10_compress_2 rfl rfl rfl rfl rfl rfl (jstp_static (sa := [vR 67 v_15, vI (0 : Int32), vR 65 r_1, vI (0 : Int32), vI x2]) (st := []) rfl rfl sJ10_compress_2 okJ10_compress_2 rfl rfl) w (fun v_22 h_20 _ _ w => ?_)
      refine jw_iload_n (pc' := 58) rfl rfl ?_
      refine jw_icmp_eq (tgt := 64) (pc' := 61) rfl rfl (fun c_23 => ?_) (fun c_23 => ?_)
      · replace w := w.1 c_23
        refine jw_gen (ls' := [none, none, none, some (vR 65 r_1), none, none]) (st' := []) (And.intro (Or.inl rfl) (trivial)) (trivial) ?_
        exact w_J10_compress_64 w
      · replace w := w.2 c_23
        refine jw_gen (ls' := [none, none, none, none, none, some (vR 67 v_15)]) (st' := []) (And.intro (Or.inl rfl) (trivial)) (trivial) ?_
        exact w_J10_compress_61 w
def T_J10_compress (D : JD) (d : Nat) (Q : JO → JH → Prop) (r0 : Nat) (x1 : Int32) (x2 : Int32) (h : JH) : Prop := W_J10_compress_0 D d Q r0 x1 x2 h
theorem t_J10_compress {D : JD} {d : Nat} {Q : JO → JH → Prop} {r0 : Nat} {x1 : Int32} {x2 : Int32} {h : JH} (w : T_J10_compress D d Q r0 x1 x2 h) : cJ10_compress D (d + 1) r0 x1 x2 h Q := by
  unfold T_J10_compress at w
  unfold cJ10_compress
  exact w_J10_compress_0 w
def W_J10_compress_2_10 (D : JD) (d : Nat) (Q : JO → JH → Prop) (K10 : Nat → Int32 → Nat → Int32 → Int32 → Int32 → JH → Prop) (r0 : Nat) (x1 : Int32) (r2 : Nat) (x3 : Int32) (x4 : Int32) (x5 : Int32) (h : JH) : Prop :=
  (x4 ≤ x5 → Q (.inl (some (vI x4))) h) ∧ (¬ x4 ≤ x5 → cJ10_getChar D d r0 x1 h (pI D h (fun v_4 h_2 => (v_4 ≤ (255 : Int32) → (r2 = 0 ∨ sbt (jkd h_2 r2) 65 = true) ∧ r2 ≠ 0 ∧ jin x3 (jln h_2 r2) ∧ ∀ h_9 : JH, h_9 = wai h_2 r2 (ixn x3) ((Int32.toInt8 ((Int32.toInt8 v_4).toInt32)).toInt32) → (K10 r0 (x1 + (1 : Int32)) r2 (x3 + (1 : Int32)) x4 (x5 + (1 : Int32)) h_9)) ∧ (¬ v_4 ≤ (255 : Int32) → Q (.inl (some (vI x5))) h_2)) (jth Q)))
theorem w_J10_compress_2_10 {D : JD} {d : Nat} {Q : JO → JH → Prop} {K10 : Nat → Int32 → Nat → Int32 → Int32 → Int32 → JH → Prop} {r0 : Nat} {x1 : Int32} {r2 : Nat} {x3 : Int32} {x4 : Int32} {x5 : Int32} {h : JH} (hK10 : ∀ (r0 : Nat) (x1 : Int32) (r2 : Nat) (x3 : Int32) (x4 : Int32) (x5 : Int32) (h : JH), K10 r0 x1 r2 x3 x4 x5 h → JW D (d + 1) mJ10_compress_2 10 [some (vR 67 r0), some (vI x1), some (vR 67 r2), some (vI x3), some (vI x4), some (vI x5), none] [] h Q) (w : W_J10_compress_2_10 D d Q K10 r0 x1 r2 x3 x4 x5 h) : JW D (d + 1) mJ10_compress_2 10 [some (vR 67 r0), some (vI x1), some (vR 67 r2), some (vI x3), some (vI x4), some (vI x5), none] [] h Q := by
  unfold W_J10_compress_2_10 at w
  refine jw_iload (pc' := 12) rfl rfl ?_
  refine jw_iload (pc' := 14) rfl rfl ?_
  refine jw_icmp_ge (tgt := 53) (pc' := 17) rfl rfl (fun c_1 => ?_) (fun c_1 => ?_)
  · replace w := w.1 c_1
    refine jw_iload (pc' := 55) rfl rfl ?_
    exact jw_ireturn rfl rfl (rfl) w
  · replace w := w.2 c_1
    refine jw_aload_n (pc' := 18) rfl rfl ?_
    refine jw_iload_n (pc' := 19) rfl rfl ?_
    refine jw_cI (st := []) (sa := [vR 67 r0, vI x1]) okJ10_getChar rfl rfl rfl rfl rfl rfl (jstp_static (sa := [vR 67 r0, vI x1]) (st := []) rfl rfl sJ10_getChar okJ10_getChar rfl rfl) w (fun v_4 h_2 _ _ w => ?_)
    refine jw_istore (pc' := 24) (ls' := [some (vR 67 r0), some (vI x1), some (vR 67 r2), some (vI x3), some (vI x4), some (vI x5), some (vI v_4)]) rfl (by decide) rfl ?_
    refine jw_iload (pc' := 26) rfl rfl ?_
    refine jw_sipush (pc' := 29) (x := (255 : Int32)) rfl rfl ?_
    refine jw_icmp_le (tgt := 35) (pc' := 32) rfl rfl (fun c_5 => ?_) (fun c_5 => ?_)
    · replace w := w.1 c_5
      refine jw_aload_n (pc' := 36) rfl rfl ?_
      refine jw_iload_n (pc' := 37) rfl rfl ?_
      refine jw_iload (pc' := 39) rfl rfl ?_
      refine jw_i2b (pc' := 40) rfl ?_
      obtain ⟨g_6, w⟩ := w
      refine jw_gen (ls' := _) (st' := [vI ((Int32.toInt8 v_4).toInt32), vI x3, vR 65 r2]) (jgl_rf _ _) (And.intro (Or.inl rfl) (And.intro (Or.inl rfl) (And.intro (Or.inr ⟨_, _, _, rfl, rfl, Or.elim g_6 (fun z => Or.inl z) (fun z => Or.inr (Or.inr z))⟩) (trivial)))) ?_
      obtain ⟨g_7, w⟩ := w
      obtain ⟨g_8, w⟩ := w
      refine jw_bast' (pc' := 41) rfl rfl rfl rfl rfl g_7 g_8 (fun h_9 e_10 => ?_)
      replace w := w h_9 e_10
      refine jw_iinc (pc' := 44) (y := x1 + (1 : Int32)) (ls' := [some (vR 67 r0), some (vI (x1 + (1 : Int32))), some (vR 67 r2), some (vI x3), some (vI x4), some (vI x5), some (vI v_4)]) rfl (by decide) rfl rfl rfl ?_
      refine jw_iinc (pc' := 47) (y := x3 + (1 : Int32)) (ls' := [some (vR 67 r0), some (vI (x1 + (1 : Int32))), some (vR 67 r2), some (vI (x3 + (1 : Int32))), some (vI x4), some (vI x5), some (vI v_4)]) rfl (by decide) rfl rfl rfl ?_
      refine jw_iinc (pc' := 50) (y := x5 + (1 : Int32)) (ls' := [some (vR 67 r0), some (vI (x1 + (1 : Int32))), some (vR 67 r2), some (vI (x3 + (1 : Int32))), some (vI x4), some (vI (x5 + (1 : Int32))), some (vI v_4)]) rfl (by decide) rfl rfl rfl ?_
      refine jw_goto (pc' := 10) rfl rfl ?_
      refine jw_gen (ls' := [some (vR 67 r0), some (vI (x1 + (1 : Int32))), some (vR 67 r2), some (vI (x3 + (1 : Int32))), some (vI x4), some (vI (x5 + (1 : Int32))), none]) (st' := []) (And.intro (Or.inl rfl) (And.intro (Or.inl rfl) (And.intro (Or.inl rfl) (And.intro (Or.inl rfl) (And.intro (Or.inl rfl) (And.intro (Or.inl rfl) (trivial))))))) (trivial) ?_
      exact hK10 _ _ _ _ _ _ _ w
    · replace w := w.2 c_5
      refine jw_iload (pc' := 34) rfl rfl ?_
      exact jw_ireturn rfl rfl (rfl) w
def L_J10_compress_2_10 (D : JD) (d : Nat) (Q : JO → JH → Prop) : Nat → Nat → Int32 → Nat → Int32 → Int32 → Int32 → JH → Prop
  | 0 => fun _ _ _ _ _ _ _ => False
  | n + 1 => fun r0 x1 r2 x3 x4 x5 h => W_J10_compress_2_10 D d Q (L_J10_compress_2_10 D d Q n) r0 x1 r2 x3 x4 x5 h
theorem l_J10_compress_2_10 {D : JD} {d : Nat} {Q : JO → JH → Prop} : ∀ (n : Nat) (r0 : Nat) (x1 : Int32) (r2 : Nat) (x3 : Int32) (x4 : Int32) (x5 : Int32) (h : JH), L_J10_compress_2_10 D d Q n r0 x1 r2 x3 x4 x5 h → JW D (d + 1) mJ10_compress_2 10 [some (vR 67 r0), some (vI x1), some (vR 67 r2), some (vI x3), some (vI x4), some (vI x5), none] [] h Q := by
  intro n
  induction n with
  | zero => intro _ _ _ _ _ _ _ w; exact w.elim
  | succ n ih => intro _ _ _ _ _ _ h w; exact w_J10_compress_2_10 ih w
def W_J10_compress_2_0 (D : JD) (d : Nat) (Q : JO → JH → Prop) (r0 : Nat) (x1 : Int32) (r2 : Nat) (x3 : Int32) (x4 : Int32) (h : JH) : Prop :=
  cJ10_checkBoundsOffCount D d x1 x4 r0 h (pV D h (fun h_1 => ∃ n, L_J10_compress_2_10 D d Q n r0 x1 r2 x3 x4 (0 : Int32) h_1) (jth Q))
theorem w_J10_compress_2_0 {D : JD} {d : Nat} {Q : JO → JH → Prop} {r0 : Nat} {x1 : Int32} {r2 : Nat} {x3 : Int32} {x4 : Int32} {h : JH} (w : W_J10_compress_2_0 D d Q r0 x1 r2 x3 x4 h) : JW D (d + 1) mJ10_compress_2 0 [some (vR 67 r0), some (vI x1), some (vR 67 r2), some (vI x3), some (vI x4), none, none] [] h Q := by
  unfold W_J10_compress_2_0 at w
  refine jw_iload_n (pc' := 1) rfl rfl ?_
  refine jw_iload (pc' := 3) rfl rfl ?_
  refine jw_aload_n (pc' := 4) rfl rfl ?_
  refine jw_cV (st := []) (sa := [vI x1, vI x4, vR 67 r0]) okJ10_checkBoundsOffCount rfl rfl rfl rfl rfl rfl (jstp_static (sa := [vI x1, vI x4, vR 67 r0]) (st := []) rfl rfl sJ10_checkBoundsOffCount okJ10_checkBoundsOffCount rfl rfl) w (fun h_1 _ _ w => ?_)
  refine jw_iconst (pc' := 8) (x := (0 : Int32)) rfl rfl ?_
  refine jw_istore (pc' := 10) (ls' := [some (vR 67 r0), some (vI x1), some (vR 67 r2), some (vI x3), some (vI x4), some (vI (0 : Int32)), none]) rfl (by decide) rfl ?_
  obtain ⟨n, w⟩ := w
  exact l_J10_compress_2_10 n _ _ _ _ _ _ _ w
def T_J10_compress_2 (D : JD) (d : Nat) (Q : JO → JH → Prop) (r0 : Nat) (x1 : Int32) (r2 : Nat) (x3 : Int32) (x4 : Int32) (h : JH) : Prop := W_J10_compress_2_0 D d Q r0 x1 r2 x3 x4 h
theorem t_J10_compress_2 {D : JD} {d : Nat} {Q : JO → JH → Prop} {r0 : Nat} {x1 : Int32} {r2 : Nat} {x3 : Int32} {x4 : Int32} {h : JH} (w : T_J10_compress_2 D d Q r0 x1 r2 x3 x4 h) : cJ10_compress_2 D (d + 1) r0 x1 r2 x3 x4 h Q := by
  unfold T_J10_compress_2 at w
  unfold cJ10_compress_2
  exact w_J10_compress_2_0 w
def W_J10_coderFromArrayLen_0 (D : JD) (d : Nat) (Q : JO → JH → Prop) (r0 : Nat) (x1 : Int32) (h : JH) : Prop :=
  r0 ≠ 0 ∧ (narrow .byte (.int ((Int32.toInt8 ((Int32.toUInt32 (x1 - (nI (jln h r0))) >>> (Int32.toUInt32 (31 : Int32) &&& Int32.toUInt32 31)).toInt32)).toInt32)) = .int ((Int32.toInt8 ((Int32.toUInt32 (x1 - (nI (jln h r0))) >>> (Int32.toUInt32 (31 : Int32) &&& Int32.toUInt32 31)).toInt32)).toInt32) ∧ (Q (.inl (some (vI ((Int32.toInt8 ((Int32.toUInt32 (x1 - (nI (jln h r0))) >>> (Int32.toUInt32 (31 : Int32) &&& Int32.toUInt32 31)).toInt32)).toInt32)))) h))
theorem w_J10_coderFromArrayLen_0 {D : JD} {d : Nat} {Q : JO → JH → Prop} {r0 : Nat} {x1 : Int32} {h : JH} (w : W_J10_coderFromArrayLen_0 D d Q r0 x1 h) : JW D (d + 1) mJ10_coderFromArrayLen 0 [some (vR 67 r0), some (vI x1)] [] h Q := by
  unfold W_J10_coderFromArrayLen_0 at w
  refine jw_iload_n (pc' := 1) rfl rfl ?_
  refine jw_aload_n (pc' := 2) rfl rfl ?_
  obtain ⟨g_1, w⟩ := w
  refine jw_alen (pc' := 3) rfl rfl g_1 ?_
  refine jw_isub (pc' := 4) rfl ?_
  refine jw_bipush (pc' := 6) (x := (31 : Int32)) rfl rfl ?_
  refine jw_iushr (pc' := 7) rfl ?_
  refine jw_i2b (pc' := 8) rfl ?_
  obtain ⟨g_2, w⟩ := w
  exact jw_ireturn rfl rfl (g_2) w
def T_J10_coderFromArrayLen (D : JD) (d : Nat) (Q : JO → JH → Prop) (r0 : Nat) (x1 : Int32) (h : JH) : Prop := W_J10_coderFromArrayLen_0 D d Q r0 x1 h
theorem t_J10_coderFromArrayLen {D : JD} {d : Nat} {Q : JO → JH → Prop} {r0 : Nat} {x1 : Int32} {h : JH} (w : T_J10_coderFromArrayLen D d Q r0 x1 h) : cJ10_coderFromArrayLen D (d + 1) r0 x1 h Q := by
  unfold T_J10_coderFromArrayLen at w
  unfold cJ10_coderFromArrayLen
  exact w_J10_coderFromArrayLen_0 w
def W_J10_charAt_0 (D : JD) (d : Nat) (Q : JO → JH → Prop) (r0 : Nat) (x1 : Int32) (h : JH) : Prop :=
  cJ10_checkIndex D d x1 r0 h (pV D h (fun h_1 => cJ10_getChar D d r0 x1 h_1 (pI D h_1 (fun v_6 h_4 => narrow .char (.int v_6) = .int v_6 ∧ (Q (.inl (some (vI v_6))) h_4)) (jth Q))) (jth Q))
theorem w_J10_charAt_0 {D : JD} {d : Nat} {Q : JO → JH → Prop} {r0 : Nat} {x1 : Int32} {h : JH} (w : W_J10_charAt_0 D d Q r0 x1 h) : JW D (d + 1) mJ10_charAt 0 [some (vR 67 r0), some (vI x1)] [] h Q := by
  unfold W_J10_charAt_0 at w
  refine jw_iload_n (pc' := 1) rfl rfl ?_
  refine jw_aload_n (pc' := 2) rfl rfl ?_
  refine jw_cV (st := []) (sa := [vI x1, vR 67 r0]) okJ10_checkIndex rfl rfl rfl rfl rfl rfl (jstp_static (sa := [vI x1, vR 67 r0]) (st := []) rfl rfl sJ10_checkIndex okJ10_checkIndex rfl rfl) w (fun h_1 _ _ w => ?_)
  refine jw_aload_n (pc' := 6) rfl rfl ?_
  refine jw_iload_n (pc' := 7) rfl rfl ?_
  refine jw_cI (st := []) (sa := [vR 67 r0, vI x1]) okJ10_getChar rfl rfl rfl rfl rfl rfl (jstp_static (sa := [vR 67 r0, vI x1]) (st := []) rfl rfl sJ10_getChar okJ10_getChar rfl rfl) w (fun v_6 h_4 _ _ w => ?_)
  obtain ⟨g_7, w⟩ := w
  exact jw_ireturn rfl rfl (g_7) w
def T_J10_charAt (D : JD) (d : Nat) (Q : JO → JH → Prop) (r0 : Nat) (x1 : Int32) (h : JH) : Prop := W_J10_charAt_0 D d Q r0 x1 h
theorem t_J10_charAt {D : JD} {d : Nat} {Q : JO → JH → Prop} {r0 : Nat} {x1 : Int32} {h : JH} (w : T_J10_charAt D d Q r0 x1 h) : cJ10_charAt D (d + 1) r0 x1 h Q := by
  unfold T_J10_charAt at w
  unfold cJ10_charAt
  exact w_J10_charAt_0 w
def W_J10_hashCode_51 (D : JD) (d : Nat) (Q : JO → JH → Prop) (s0 : Int32) (h : JH) : Prop :=
  Q (.inl (some (vI s0))) h
theorem w_J10_hashCode_51 {D : JD} {d : Nat} {Q : JO → JH → Prop} {s0 : Int32} {h : JH} (w : W_J10_hashCode_51 D d Q s0 h) : JW D (d + 1) mJ10_hashCode 51 [none] [vI s0] h Q := by
  unfold W_J10_hashCode_51 at w
  exact jw_ireturn rfl rfl (rfl) w
def W_J10_hashCode_0 (D : JD) (d : Nat) (Q : JO → JH → Prop) (r0 : Nat) (h : JH) : Prop :=
  r0 ≠ 0 ∧ (((nI (jln h r0)) = (0 : Int32) → W_J10_hashCode_51 D d Q (0 : Int32) h) ∧ ((nI (jln h r0)) = (2 : Int32) → cJ10_getChar D d r0 (0 : Int32) h (pI D h (fun v_6 h_4 => W_J10_hashCode_51 D d Q v_6 h_4) (jth Q))) ∧ (¬ (nI (jln h r0)) = (0 : Int32) → ¬ (nI (jln h r0)) = (2 : Int32) → cJ14_vectorizedHashCode D d r0 (0 : Int32) ((nI (jln h r0)) >>> ((1 : Int32) &&& 31)) (0 : Int32) (5 : Int32) h (pI D h (fun v_9 h_7 => W_J10_hashCode_51 D d Q v_9 h_7) (jth Q))))
theorem w_J10_hashCode_0 {D : JD} {d : Nat} {Q : JO → JH → Prop} {r0 : Nat} {h : JH} (w : W_J10_hashCode_0 D d Q r0 h) : JW D (d + 1) mJ10_hashCode 0 [some (vR 67 r0)] [] h Q := by
  unfold W_J10_hashCode_0 at w
  refine jw_aload_n (pc' := 1) rfl rfl ?_
  obtain ⟨g_1, w⟩ := w
  refine jw_alen (pc' := 2) rfl rfl g_1 ?_
  refine jw_lsw (cs := [((0 : Int32), 28), ((2 : Int32), 32)]) (dt := 40) rfl (by decide +kernel) (by decide +kernel) ?_
  by_cases c_2 : (nI (jln h r0)) = (0 : Int32)
  · rw [jsw_hit c_2]
    replace w := w.1 c_2
    refine jw_iconst (pc' := 29) (x := (0 : Int32)) rfl rfl ?_
    refine jw_goto (pc' := 51) rfl rfl ?_
    refine jw_gen (ls' := [none]) (st' := [vI (0 : Int32)]) (trivial) (And.intro (Or.inl rfl) (trivial)) ?_
    exact w_J10_hashCode_51 w
  · rw [jsw_miss c_2]
    replace w := w.2
    by_cases c_3 : (nI (jln h r0)) = (2 : Int32)
    · rw [jsw_hit c_3]
      replace w := w.1 c_3
      refine jw_aload_n (pc' := 33) rfl rfl ?_
      refine jw_iconst (pc' := 34) (x := (0 : Int32)) rfl rfl ?_
      refine jw_cI (st := []) (sa := [vR 67 r0, vI (0 : Int32)]) okJ10_getChar rfl rfl rfl rfl rfl rfl (jstp_static (sa := [vR 67 r0, vI (0 : Int32)]) (st := []) rfl rfl sJ10_getChar okJ10_getChar rfl rfl) w (fun v_6 h_4 _ _ w => ?_)
      refine jw_goto (pc' := 51) rfl rfl ?_
      refine jw_gen (ls' := [none]) (st' := [vI v_6]) (trivial) (And.intro (Or.inl rfl) (trivial)) ?_
      exact w_J10_hashCode_51 w
    · rw [jsw_miss c_3]
      replace w := w.2
      rw [jsw_nil]
      replace w := w c_2 c_3
      refine jw_aload_n (pc' := 41) rfl rfl ?_
      refine jw_iconst (pc' := 42) (x := (0 : Int32)) rfl rfl ?_
      refine jw_aload_n (pc' := 43) rfl rfl ?_
      refine jw_alen (pc' := 44) rfl rfl g_1 ?_
      refine jw_iconst (pc' := 45) (x := (1 : Int32)) rfl rfl ?_
      refine jw_ishr (pc' := 46) rfl ?_
      refine jw_iconst (pc' := 47) (x := (0 : Int32)) rfl rfl ?_
      refine jw_iconst (pc' := 48) (x := (5 : Int32)) rfl rfl ?_
      refine jw_cI (st := []) (sa := [vR 67 r0, vI (0 : Int32), vI ((nI (jln h r0)) >>> ((1 : Int32) &&& 31)), vI (0 : Int32), vI (5 : Int32)]) okJ14_vectorizedHashCode rfl rfl rfl rfl rfl rfl (jstp_static (sa := [vR 67 r0, vI (0 : Int32), vI ((nI (jln h r0)) >>> ((1 : Int32) &&& 31)), vI (0 : Int32), vI (5 : Int32)]) (st := []) rfl rfl sJ14_vectorizedHashCode okJ14_vectorizedHashCode rfl rfl) w (fun v_9 h_7 _ _ w => ?_)
      refine jw_gen (ls' := [none]) (st' := [vI v_9]) (trivial) (And.intro (Or.inl rfl) (trivial)) ?_
      exact w_J10_hashCode_51 w
def T_J10_hashCode (D : JD) (d : Nat) (Q : JO → JH → Prop) (r0 : Nat) (h : JH) : Prop := W_J10_hashCode_0 D d Q r0 h
theorem t_J10_hashCode {D : JD} {d : Nat} {Q : JO → JH → Prop} {r0 : Nat} {h : JH} (w : T_J10_hashCode D d Q r0 h) : cJ10_hashCode D (d + 1) r0 h Q := by
  unfold T_J10_hashCode at w
  unfold cJ10_hashCode
  exact w_J10_hashCode_0 w
def W_J10_newString_0 (D : JD) (d : Nat) (Q : JO → JH → Prop) (r0 : Nat) (x1 : Int32) (x2 : Int32) (h : JH) : Prop :=
  (¬ x2 = 0 → cJ10_compress D d r0 x1 x2 h (pR D h 67 (fun v_5 h_3 => cJ10_coderFromArrayLen D d v_5 x2 h_3 (pI D h_3 (fun v_8 h_6 => ∀ (r_9 : Nat) (h_10 : JH), r_9 = jsz h_6 + 1 → h_10 = nwo h_6 12 4 → (cJ5_init_3 D d r_9 v_5 v_8 h_10 (pV D h_10 (fun h_13 => Q (.inl (some (vR 64 r_9))) h_13) (jth Q)))) (jth Q))) (jth Q))) ∧ (x2 = 0 → Q (.inl (some (vR 64 (jcs D 232)))) h)
theorem w_J10_newString_0 {D : JD} {d : Nat} {Q : JO → JH → Prop} {r0 : Nat} {x1 : Int32} {x2 : Int32} {h : JH} (w : W_J10_newString_0 D d Q r0 x1 x2 h) : JW D (d + 1) mJ10_newString 0 [some (vR 67 r0), some (vI x1), some (vI x2), none, none] [] h Q := by
  unfold W_J10_newString_0 at w
  refine jw_iload_n (pc' := 1) rfl rfl ?_
  refine jw_if_ne (tgt := 8) (pc' := 4) rfl rfl (fun c_1 => ?_) (fun c_1 => ?_)
  · replace w := w.1 c_1
    refine jw_getsI (pc' := 11) (v := (1 : Int32)) rfl rfl (by decide +kernel) ?_
    refine jw_if_eq (tgt := 39) (pc' := 14) rfl rfl (fun c_2 => absurd c_2 (by decide)) (fun _ => ?_)
    refine jw_aload_n (pc' := 15) rfl rfl ?_
    refine jw_iload_n (pc' := 16) rfl rfl ?_
    refine jw_iload_n (pc' := 17) rfl rfl ?_
    refine jw_cR (st := []) (sa := [vR 67 r0, vI x1, vI x2]) okJ10_compress rfl rfl rfl rfl rfl rfl (jstp_static (sa := [vR 67 r0, vI x1, vI x2]) (st := []) rfl rfl sJ10_compress okJ10_compress rfl rfl) w (fun v_5 h_3 _ _ _ w => ?_)
    refine jw_astore_n (pc' := 21) (ls' := [some (vR 67 r0), some (vI x1), some (vI x2), some (vR 67 v_5), none]) rfl (by decide) rfl ?_
    refine jw_aload_n (pc' := 22) rfl rfl ?_
    refine jw_iload_n (pc' := 23) rfl rfl ?_
    refine jw_cI (st := []) (sa := [vR 67 v_5, vI x2]) okJ10_coderFromArrayLen rfl rfl rfl rfl rfl rfl (jstp_static (sa := [vR 67 v_5, vI x2]) (st := []) rfl rfl sJ10_coderFromArrayLen okJ10_coderFromArrayLen rfl rfl) w (fun v_8 h_6 _ _ w => ?_)
    refine jw_istore (pc' := 28) (ls' := [some (vR 67 r0), some (vI x1), some (vI x2), some (vR 67 v_5), some (vI v_8)]) rfl (by decide) rfl ?_
    refine jw_new' (pc' := 31) (k := 12) (n := 4) rfl rfl rfl rfl rfl rfl rfl (fun r_9 h_10 e_11 e_12 => ?_)
    replace w := w r_9 h_10 e_11 e_12
    refine jw_dup (pc' := 32) rfl rfl ?_
    refine jw_aload_n (pc' := 33) rfl rfl ?_
    refine jw_iload (pc' := 35) rfl rfl ?_
    refine jw_cV (st := [vR 12 r_9]) (sa := [vR 12 r_9, vR 67 v_5, vI v_8]) okJ5_init_3 rfl rfl rfl rfl rfl rfl (jstp_init (sa := [vR 67 v_5, vI v_8]) (st := [vR 12 r_9]) rfl rfl sJ5_init_3 okJ5_init_3 (lw_g (jtb_mem (c := 5) (i := 7) rfl) rfl) (jnz e_11) rfl rfl) w (fun h_13 _ _ w => ?_)
    exact jw_areturn rfl rfl rfl rfl rfl w
  · replace w := w.2 c_1
    refine jw_ldcwS (pc' := 7) rfl rfl rfl rfl ?_
    exact jw_areturn rfl rfl rfl rfl rfl w
def T_J10_newString (D : JD) (d : Nat) (Q : JO → JH → Prop) (r0 : Nat) (x1 : Int32) (x2 : Int32) (h : JH) : Prop := W_J10_newString_0 D d Q r0 x1 x2 h
theorem t_J10_newString {D : JD} {d : Nat} {Q : JO → JH → Prop} {r0 : Nat} {x1 : Int32} {x2 : Int32} {h : JH} (w : T_J10_newString D d Q r0 x1 x2 h) : cJ10_newString D (d + 1) r0 x1 x2 h Q := by
  unfold T_J10_newString at w
  unfold cJ10_newString
  exact w_J10_newString_0 w
def W_J10_indexOf_0 (D : JD) (d : Nat) (Q : JO → JH → Prop) (r0 : Nat) (r1 : Nat) (h : JH) : Prop :=
  r1 ≠ 0 ∧ ((¬ (nI (jln h r1)) = 0 → r0 ≠ 0 ∧ (((nI (jln h r1)) ≤ (nI (jln h r0)) → cJ10_length D d r0 h (pI D h (fun v_7 h_5 => cJ10_length D d r1 h_5 (pI D h_5 (fun v_10 h_8 => cJ10_indexOfUnsafe D d r0 v_7 r1 v_10 (0 : Int32) h_8 (pI D h_8 (fun v_13 h_11 => Q (.inl (some (vI v_13))) h_11) (jth Q))) (jth Q))) (jth Q))) ∧ (¬ (nI (jln h r1)) ≤ (nI (jln h r0)) → Q (.inl (some (vI (-1 : Int32)))) h))) ∧ ((nI (jln h r1)) = 0 → Q (.inl (some (vI (0 : Int32)))) h))
theorem w_J10_indexOf_0 {D : JD} {d : Nat} {Q : JO → JH → Prop} {r0 : Nat} {r1 : Nat} {h : JH} (w : W_J10_indexOf_0 D d Q r0 r1 h) : JW D (d + 1) mJ10_indexOf 0 [some (vR 67 r0), some (vR 67 r1)] [] h Q := by
  unfold W_J10_indexOf_0 at w
  refine jw_aload_n (pc' := 1) rfl rfl ?_
  obtain ⟨g_1, w⟩ := w
  refine jw_alen (pc' := 2) rfl rfl g_1 ?_
  refine jw_if_ne (tgt := 7) (pc' := 5) rfl rfl (fun c_2 => ?_) (fun c_2 => ?_)
  · replace w := w.1 c_2
    refine jw_aload_n (pc' := 8) rfl rfl ?_
    obtain ⟨g_3, w⟩ := w
    refine jw_alen (pc' := 9) rfl rfl g_3 ?_
    refine jw_aload_n (pc' := 10) rfl rfl ?_
    refine jw_alen (pc' := 11) rfl rfl g_1 ?_
    refine jw_icmp_ge (tgt := 16) (pc' := 14) rfl rfl (fun c_4 => ?_) (fun c_4 => ?_)
    · replace w := w.1 c_4
      refine jw_aload_n (pc' := 17) rfl rfl ?_
      refine jw_aload_n (pc' := 18) rfl rfl ?_
      refine jw_cI (st := [vR 67 r0]) (sa := [vR 67 r0]) okJ10_length rfl rfl rfl rfl rfl rfl (jstp_static (sa := [vR 67 r0]) (st := [vR 67 r0]) rfl rfl sJ10_length okJ10_length rfl rfl) w (fun v_7 h_5 _ _ w => ?_)
      refine jw_aload_n (pc' := 22) rfl rfl ?_
      refine jw_aload_n (pc' := 23) rfl rfl ?_
      refine jw_cI (st := [vR 67 r1, vI v_7, vR 67 r0]) (sa := [vR 67 r1]) okJ10_length rfl rfl rfl rfl rfl rfl (jstp_static (sa := [vR 67 r1]) (st := [vR 67 r1, vI v_7, vR 67 r0]) rfl rfl sJ10_length okJ10_length rfl rfl) w (fun v_10 h_8 _ _ w => ?_)
      refine jw_iconst (pc' := 27) (x := (0 : Int32)) rfl rfl ?_
      refine jw_cI (st := []) (sa := [vR 67 r0, vI v_7, vR 67 r1, vI v_10, vI (0 : Int32)]) okJ10_indexOfUnsafe rfl rfl rfl rfl rfl rfl (jstp_static (sa := [vR 67 r0, vI v_7, vR 67 r1, vI v_10, vI (0 : Int32)]) (st := []) rfl rfl sJ10_indexOfUnsafe okJ10_indexOfUnsafe rfl rfl) w (fun v_13 h_11 _ _ w => ?_)
      exact jw_ireturn rfl rfl (rfl) w
    · replace w := w.2 c_4
      refine jw_iconst (pc' := 15) (x := (-1 : Int32)) rfl rfl ?_
      exact jw_ireturn rfl rfl (rfl) w
  · replace w := w.2 c_2
    refine jw_iconst (pc' := 6) (x := (0 : Int32)) rfl rfl ?_
    exact jw_ireturn rfl rfl (rfl) w
def T_J10_indexOf (D : JD) (d : Nat) (Q : JO → JH → Prop) (r0 : Nat) (r1 : Nat) (h : JH) : Prop := W_J10_indexOf_0 D d Q r0 r1 h
theorem t_J10_indexOf {D : JD} {d : Nat} {Q : JO → JH → Prop} {r0 : Nat} {r1 : Nat} {h : JH} (w : T_J10_indexOf D d Q r0 r1 h) : cJ10_indexOf D (d + 1) r0 r1 h Q := by
  unfold T_J10_indexOf at w
  unfold cJ10_indexOf
  exact w_J10_indexOf_0 w
def W_J10_indexOfUnsafe_201 (D : JD) (d : Nat) (Q : JO → JH → Prop) (K94 : Nat → Nat → Int32 → Int32 → Int32 → Int32 → JH → Prop) (r0 : Nat) (r2 : Nat) (x3 : Int32) (x5 : Int32) (x6 : Int32) (x7 : Int32) (h : JH) : Prop :=
  K94 r0 r2 x3 x5 x6 (x7 + (1 : Int32)) h
theorem w_J10_indexOfUnsafe_201 {D : JD} {d : Nat} {Q : JO → JH → Prop} {K94 : Nat → Nat → Int32 → Int32 → Int32 → Int32 → JH → Prop} {r0 : Nat} {r2 : Nat} {x3 : Int32} {x5 : Int32} {x6 : Int32} {x7 : Int32} {h : JH} (hK94 : ∀ (r0 : Nat) (r2 : Nat) (x3 : Int32) (x5 : Int32) (x6 : Int32) (x7 : Int32) (h : JH), K94 r0 r2 x3 x5 x6 x7 h → JW D (d + 1) mJ10_indexOfUnsafe 94 [some (vR 67 r0), none, some (vR 67 r2), some (vI x3), none, some (vI x5), some (vI x6), some (vI x7), none, none, none] [] h Q) (w : W_J10_indexOfUnsafe_201 D d Q K94 r0 r2 x3 x5 x6 x7 h) : JW D (d + 1) mJ10_indexOfUnsafe 201 [some (vR 67 r0), none, some (vR 67 r2), some (vI x3), none, some (vI x5), some (vI x6), some (vI x7), none, none, none] [] h Q := by
  unfold W_J10_indexOfUnsafe_201 at w
  refine jw_iinc (pc' := 204) (y := x7 + (1 : Int32)) (ls' := [some (vR 67 r0), none, some (vR 67 r2), some (vI x3), none, some (vI x5), some (vI x6), some (vI (x7 + (1 : Int32))), none, none, none]) rfl (by decide) rfl rfl rfl ?_
  refine jw_goto (pc' := 94) rfl rfl ?_
  exact hK94 _ _ _ _ _ _ _ w
def W_J10_indexOfUnsafe_191 (D : JD) (d : Nat) (Q : JO → JH → Prop) (K94 : Nat → Nat → Int32 → Int32 → Int32 → Int32 → JH → Prop) (r0 : Nat) (r2 : Nat) (x3 : Int32) (x5 : Int32) (x6 : Int32) (x7 : Int32) (x8 : Int32) (x9 : Int32) (h : JH) : Prop :=
  (¬ x8 = x9 → W_J10_indexOfUnsafe_201 D d Q K94 r0 r2 x3 x5 x6 x7 h) ∧ (x8 = x9 → Q (.inl (some (vI x7))) h)
theorem w_J10_indexOfUnsafe_191 {D : JD} {d : Nat} {Q : JO → JH → Prop} {K94 : Nat → Nat → Int32 → Int32 → Int32 → Int32 → JH → Prop} {r0 : Nat} {r2 : Nat} {x3 : Int32} {x5 : Int32} {x6 : Int32} {x7 : Int32} {x8 : Int32} {x9 : Int32} {h : JH} (hK94 : ∀ (r0 : Nat) (r2 : Nat) (x3 : Int32) (x5 : Int32) (x6 : Int32) (x7 : Int32) (h : JH), K94 r0 r2 x3 x5 x6 x7 h → JW D (d + 1) mJ10_indexOfUnsafe 94 [some (vR 67 r0), none, some (vR 67 r2), some (vI x3), none, some (vI x5), some (vI x6), some (vI x7), none, none, none] [] h Q) (w : W_J10_indexOfUnsafe_191 D d Q K94 r0 r2 x3 x5 x6 x7 x8 x9 h) : JW D (d + 1) mJ10_indexOfUnsafe 191 [some (vR 67 r0), none, some (vR 67 r2), some (vI x3), none, some (vI x5), some (vI x6), some (vI x7), some (vI x8), some (vI x9), none] [] h Q := by
  unfold W_J10_indexOfUnsafe_191 at w
  refine jw_iload (pc' := 193) rfl rfl ?_
  refine jw_iload (pc' := 195) rfl rfl ?_
  refine jw_icmp_ne (tgt := 201) (pc' := 198) rfl rfl (fun c_1 => ?_) (fun c_1 => ?_)
  · replace w := w.1 c_1
    refine jw_gen (ls' := [some (vR 67 r0), none, some (vR 67 r2), some (vI x3), none, some (vI x5), some (vI x6), some (vI x7), none, none, none]) (st' := []) (And.intro (Or.inl rfl) (And.intro (Or.inl rfl) (And.intro (Or.inl rfl) (And.intro (Or.inl rfl) (And.intro (Or.inl rfl) (And.intro (Or.inl rfl) (trivial))))))) (trivial) ?_
    exact w_J10_indexOfUnsafe_201 hK94 w
  · replace w := w.2 c_1
    refine jw_iload (pc' := 200) rfl rfl ?_
    exact jw_ireturn rfl rfl (rfl) w
def W_J10_indexOfUnsafe_160 (D : JD) (d : Nat) (Q : JO → JH → Prop) (K94 : Nat → Nat → Int32 → Int32 → Int32 → Int32 → JH → Prop) (K160 : Nat → Nat → Int32 → Int32 → Int32 → Int32 → Int32 → Int32 → Int32 → JH → Prop) (r0 : Nat) (r2 : Nat) (x3 : Int32) (x5 : Int32) (x6 : Int32) (x7 : Int32) (x8 : Int32) (x9 : Int32) (x10 : Int32) (h : JH) : Prop :=
  (x9 ≤ x8 → W_J10_indexOfUnsafe_191 D d Q K94 r0 r2 x3 x5 x6 x7 x8 x9 h) ∧ (¬ x9 ≤ x8 → cJ10_getChar D d r0 x8 h (pI D h (fun v_4 h_2 => cJ10_getChar D d r2 x10 h_2 (pI D h_2 (fun v_7 h_5 => (¬ v_4 = v_7 → W_J10_indexOfUnsafe_191 D d Q K94 r0 r2 x3 x5 x6 x7 x8 x9 h_5) ∧ (v_4 = v_7 → K160 r0 r2 x3 x5 x6 x7 (x8 + (1 : Int32)) x9 (x10 + (1 : Int32)) h_5)) (jth Q))) (jth Q)))
theorem w_J10_indexOfUnsafe_160 {D : JD} {d : Nat} {Q : JO → JH → Prop} {K94 : Nat → Nat → Int32 → Int32 → Int32 → Int32 → JH → Prop} {K160 : Nat → Nat → Int32 → Int32 → Int32 → Int32 → Int32 → Int32 → Int32 → JH → Prop} {r0 : Nat} {r2 : Nat} {x3 : Int32} {x5 : Int32} {x6 : Int32} {x7 : Int32} {x8 : Int32} {x9 : Int32} {x10 : Int32} {h : JH} (hK94 : ∀ (r0 : Nat) (r2 : Nat) (x3 : Int32) (x5 : Int32) (x6 : Int32) (x7 : Int32) (h : JH), K94 r0 r2 x3 x5 x6 x7 h → JW D (d + 1) mJ10_indexOfUnsafe 94 [some (vR 67 r0), none, some (vR 67 r2), some (vI x3), none, some (vI x5), some (vI x6), some (vI x7), none, none, none] [] h Q) (hK160 : ∀ (r0 : Nat) (r2 : Nat) (x3 : Int32) (x5 : Int32) (x6 : Int32) (x7 : Int32) (x8 : Int32) (x9 : Int32) (x10 : Int32) (h : JH), K160 r0 r2 x3 x5 x6 x7 x8 x9 x10 h → JW D (d + 1) mJ10_indexOfUnsafe 160 [some (vR 67 r0), none, some (vR 67 r2), some (vI x3), none, some (vI x5), some (vI x6), some (vI x7), some (vI x8), some (vI x9), some (vI x10)] [] h Q) (w : W_J10_indexOfUnsafe_160 D d Q K94 K160 r0 r2 x3 x5 x6 x7 x8 x9 x10 h) : JW D (d + 1) mJ10_indexOfUnsafe 160 [some (vR 67 r0), none, some (vR 67 r2), some (vI x3), none, some (vI x5), some (vI x6), some (vI x7), some (vI x8), some (vI x9), some (vI x10)] [] h Q := by
  unfold W_J10_indexOfUnsafe_160 at w
  refine jw_iload (pc' := 162) rfl rfl ?_
  refine jw_iload (pc' := 164) rfl rfl ?_
  refine jw_icmp_ge (tgt := 191) (pc' := 167) rfl rfl (fun c_1 => ?_) (fun c_1 => ?_)
  · replace w := w.1 c_1
    refine jw_gen (ls' := [some (vR 67 r0), none, some (vR 67 r2), some (vI x3), none, some (vI x5), some (vI x6), some (vI x7), some (vI x8), some (vI x9), none]) (st' := []) (And.intro (Or.inl rfl) (And.intro (Or.inl rfl) (And.intro (Or.inl rfl) (And.intro (Or.inl rfl) (And.intro (Or.inl rfl) (And.intro (Or.inl rfl) (And.intro (Or.inl rfl) (And.intro (Or.inl rfl) (trivial))))))))) (trivial) ?_
    exact w_J10_indexOfUnsafe_191 hK94 w
  · replace w := w.2 c_1
    refine jw_aload_n (pc' := 168) rfl rfl ?_
    refine jw_iload (pc' := 170) rfl rfl ?_
    refine jw_cI (st := []) (sa := [vR 67 r0, vI x8]) okJ10_getChar rfl rfl rfl rfl rfl rfl (jstp_static (sa := [vR 67 r0, vI x8]) (st := []) rfl rfl sJ10_getChar okJ10_getChar rfl rfl) w (fun v_4 h_2 _ _ w => ?_)
    refine jw_aload_n (pc' := 174) rfl rfl ?_
    refine jw_iload (pc' := 176) rfl rfl ?_
    refine jw_cI (st := [vI v_4]) (sa := [vR 67 r2, vI x10]) okJ10_getChar rfl rfl rfl rfl rfl rfl (jstp_static (sa := [vR 67 r2, vI x10]) (st := [vI v_4]) rfl rfl sJ10_getChar okJ10_getChar rfl rfl) w (fun v_7 h_5 _ _ w => ?_)
    refine jw_icmp_ne (tgt := 191) (pc' := 182) rfl rfl (fun c_8 => ?_) (fun c_8 => ?_)
    · replace w := w.1 c_8
      refine jw_gen (ls' := [some (vR 67 r0), none, some (vR 67 r2), some (vI x3), none, some (vI x5), some (vI x6), some (vI x7), some (vI x8), some (vI x9), none]) (st' := []) (And.intro (Or.inl rfl) (And.intro (Or.inl rfl) (And.intro (Or.inl rfl) (And.intro (Or.inl rfl) (And.intro (Or.inl rfl) (And.intro (Or.inl rfl) (And.intro (Or.inl rfl) (And.intro (Or.inl rfl) (trivial))))))))) (trivial) ?_
      exact w_J10_indexOfUnsafe_191 hK94 w
    · replace w := w.2 c_8
      refine jw_iinc (pc' := 185) (y := x8 + (1 : Int32)) (ls' := [some (vR 67 r0), none, some (vR 67 r2), some (vI x3), none, some (vI x5), some (vI x6), some (vI x7), some (vI (x8 + (1 : Int32))), some (vI x9), some (vI x10)]) rfl (by decide) rfl rfl rfl ?_
      refine jw_iinc (pc' := 188) (y := x10 + (1 : Int32)) (ls' := [some (vR 67 r0), none, some (vR 67 r2), some (vI x3), none, some (vI x5), some (vI x6), some (vI x7), some (vI (x8 + (1 : Int32))), some (vI x9), some (vI (x10 + (1 : Int32)))]) rfl (by decide) rfl rfl rfl ?_
      refine jw_goto (pc' := 160) rfl rfl ?_
      exact hK160 _ _ _ _ _ _ _ _ _ _ w
def L_J10_indexOfUnsafe_160 (D : JD) (d : Nat) (Q : JO → JH → Prop) (K94 : Nat → Nat → Int32 → Int32 → Int32 → Int32 → JH → Prop) : Nat → Nat → Nat → Int32 → Int32 → Int32 → Int32 → Int32 → Int32 → Int32 → JH → Prop
  | 0 => fun _ _ _ _ _ _ _ _ _ _ => False
  | n + 1 => fun r0 r2 x3 x5 x6 x7 x8 x9 x10 h => W_J10_indexOfUnsafe_160 D d Q K94 (L_J10_indexOfUnsafe_160 D d Q K94 n) r0 r2 x3 x5 x6 x7 x8 x9 x10 h
theorem l_J10_indexOfUnsafe_160 {D : JD} {d : Nat} {Q : JO → JH → Prop} {K94 : Nat → Nat → Int32 → Int32 → Int32 → Int32 → JH → Prop} (hK94 : ∀ (r0 : Nat) (r2 : Nat) (x3 : Int32) (x5 : Int32) (x6 : Int32) (x7 : Int32) (h : JH), K94 r0 r2 x3 x5 x6 x7 h → JW D (d + 1) mJ10_indexOfUnsafe 94 [some (vR 67 r0), none, some (vR 67 r2), some (vI x3), none, some (vI x5), some (vI x6), some (vI x7), none, none, none] [] h Q) : ∀ (n : Nat) (r0 : Nat) (r2 : Nat) (x3 : Int32) (x5 : Int32) (x6 : Int32) (x7 : Int32) (x8 : Int32) (x9 : Int32) (x10 : Int32) (h : JH), L_J10_indexOfUnsafe_160 D d Q K94 n r0 r2 x3 x5 x6 x7 x8 x9 x10 h → JW D (d + 1) mJ10_indexOfUnsafe 160 [some (vR 67 r0), none, some (vR 67 r2), some (vI x3), none, some (vI x5), some (vI x6), some (vI x7), some (vI x8), some (vI x9), some (vI x10)] [] h Q := by
  intro n
  induction n with
  | zero => intro _ _ _ _ _ _ _ _ _ _ w; exact w.elim
  | succ n ih => intro _ _ _ _ _ _ _ _ _ h w; exact w_J10_indexOfUnsafe_160 hK94 ih w
def W_J10_indexOfUnsafe_136 (D : JD) (d : Nat) (Q : JO → JH → Prop) (K94 : Nat → Nat → Int32 → Int32 → Int32 → Int32 → JH → Prop) (r0 : Nat) (r2 : Nat) (x3 : Int32) (x5 : Int32) (x6 : Int32) (x7 : Int32) (h : JH) : Prop :=
  (x6 < x7 → W_J10_indexOfUnsafe_201 D d Q K94 r0 r2 x3 x5 x6 x7 h) ∧ (¬ x6 < x7 → ∃ n, L_J10_indexOfUnsafe_160 D d Q K94 n r0 r2 x3 x5 x6 x7 (x7 + (1 : Int32)) (((x7 + (1 : Int32)) + x3) - (1 : Int32)) (1 : Int32) h)
theorem w_J10_indexOfUnsafe_136 {D : JD} {d : Nat} {Q : JO → JH → Prop} {K94 : Nat → Nat → Int32 → Int32 → Int32 → Int32 → JH → Prop} {r0 : Nat} {r2 : Nat} {x3 : Int32} {x5 : Int32} {x6 : Int32} {x7 : Int32} {h : JH} (hK94 : ∀ (r0 : Nat) (r2 : Nat) (x3 : Int32) (x5 : Int32) (x6 : Int32) (x7 : Int32) (h : JH), K94 r0 r2 x3 x5 x6 x7 h → JW D (d + 1) mJ10_indexOfUnsafe 94 [some (vR 67 r0), none, some (vR 67 r2), some (vI x3), none, some (vI x5), some (vI x6), some (vI x7), none, none, none] [] h Q) (w : W_J10_indexOfUnsafe_136 D d Q K94 r0 r2 x3 x5 x6 x7 h) : JW D (d + 1) mJ10_indexOfUnsafe 136 [some (vR 67 r0), none, some (vR 67 r2), some (vI x3), none, some (vI x5), some (vI x6), some (vI x7), none, none, none] [] h Q := by
  unfold W_J10_indexOfUnsafe_136 at w
  refine jw_iload (pc' := 138) rfl rfl ?_
  refine jw_iload (pc' := 140) rfl rfl ?_
  refine jw_icmp_gt (tgt := 201) (pc' := 143) rfl rfl (fun c_1 => ?_) (fun c_1 => ?_)
  · replace w := w.1 c_1
    exact w_J10_indexOfUnsafe_201 hK94 w
  · replace w := w.2 c_1
    refine jw_iload (pc' := 145) rfl rfl ?_
    refine jw_iconst (pc' := 146) (x := (1 : Int32)) rfl rfl ?_
    refine jw_iadd (pc' := 147) rfl ?_
    refine jw_istore (pc' := 149) (ls' := [some (vR 67 r0), none, some (vR 67 r2), some (vI x3), none, some (vI x5), some (vI x6), some (vI x7), some (vI (x7 + (1 : Int32))), none, none]) rfl (by decide) rfl ?_
    refine jw_iload (pc' := 151) rfl rfl ?_
    refine jw_iload_n (pc' := 152) rfl rfl ?_
    refine jw_iadd (pc' := 153) rfl ?_
    refine jw_iconst (pc' := 154) (x := (1 : Int32)) rfl rfl ?_
    refine jw_isub (pc' := 155) rfl ?_
    refine jw_istore (pc' := 157) (ls' := [some (vR 67 r0), none, some (vR 67 r2), some (vI x3), none, some (vI x5), some (vI x6), some (vI x7), some (vI (x7 + (1 : Int32))), some (vI (((x7 + (1 : Int32)) + x3) - (1 : Int32))), none]) rfl (by decide) rfl ?_
    refine jw_iconst (pc' := 158) (x := (1 : Int32)) rfl rfl ?_
    refine jw_istore (pc' := 160) (ls' := [some (vR 67 r0), none, some (vR 67 r2), some (vI x3), none, some (vI x5), some (vI x6), some (vI x7), some (vI (x7 + (1 : Int32))), some (vI (((x7 + (1 : Int32)) + x3) - (1 : Int32))), some (vI (1 : Int32))]) rfl (by decide) rfl ?_
    obtain ⟨n, w⟩ := w
    exact l_J10_indexOfUnsafe_160 hK94 n _ _ _ _ _ _ _ _ _ _ w
def W_J10_indexOfUnsafe_112 (D : JD) (d : Nat) (Q : JO → JH → Prop) (K94 : Nat → Nat → Int32 → Int32 → Int32 → Int32 → JH → Prop) (K112 : Nat → Nat → Int32 → Int32 → Int32 → Int32 → JH → Prop) (r0 : Nat) (r2 : Nat) (x3 : Int32) (x5 : Int32) (x6 : Int32) (x7 : Int32) (h : JH) : Prop :=
  (x6 < (x7 + (1 : Int32)) → W_J10_indexOfUnsafe_136 D d Q K94 r0 r2 x3 x5 x6 (x7 + (1 : Int32)) h) ∧ (¬ x6 < (x7 + (1 : Int32)) → cJ10_getChar D d r0 (x7 + (1 : Int32)) h (pI D h (fun v_4 h_2 => (v_4 = x5 → W_J10_indexOfUnsafe_136 D d Q K94 r0 r2 x3 x5 x6 (x7 + (1 : Int32)) h_2) ∧ (¬ v_4 = x5 → K112 r0 r2 x3 x5 x6 (x7 + (1 : Int32)) h_2)) (jth Q)))
theorem w_J10_indexOfUnsafe_112 {D : JD} {d : Nat} {Q : JO → JH → Prop} {K94 : Nat → Nat → Int32 → Int32 → Int32 → Int32 → JH → Prop} {K112 : Nat → Nat → Int32 → Int32 → Int32 → Int32 → JH → Prop} {r0 : Nat} {r2 : Nat} {x3 : Int32} {x5 : Int32} {x6 : Int32} {x7 : Int32} {h : JH} (hK94 : ∀ (r0 : Nat) (r2 : Nat) (x3 : Int32) (x5 : Int32) (x6 : Int32) (x7 : Int32) (h : JH), K94 r0 r2 x3 x5 x6 x7 h → JW D (d + 1) mJ10_indexOfUnsafe 94 [some (vR 67 r0), none, some (vR 67 r2), some (vI x3), none, some (vI x5), some (vI x6), some (vI x7), none, none, none] [] h Q) (hK112 : ∀ (r0 : Nat) (r2 : Nat) (x3 : Int32) (x5 : Int32) (x6 : Int32) (x7 : Int32) (h : JH), K112 r0 r2 x3 x5 x6 x7 h → JW D (d + 1) mJ10_indexOfUnsafe 112 [some (vR 67 r0), none, some (vR 67 r2), some (vI x3), none, some (vI x5), some (vI x6), some (vI x7), none, none, none] [] h Q) (w : W_J10_indexOfUnsafe_112 D d Q K94 K112 r0 r2 x3 x5 x6 x7 h) : JW D (d + 1) mJ10_indexOfUnsafe 112 [some (vR 67 r0), none, some (vR 67 r2), some (vI x3), none, some (vI x5), some (vI x6), some (vI x7), none, none, none] [] h Q := by
  unfold W_J10_indexOfUnsafe_112 at w
  refine jw_iinc (pc' := 115) (y := x7 + (1 : Int32)) (ls' := [some (vR 67 r0), none, some (vR 67 r2), some (vI x3), none, some (vI x5), some (vI x6), some (vI (x7 + (1 : Int32))), none, none, none]) rfl (by decide) rfl rfl rfl ?_
  refine jw_iload (pc' := 117) rfl rfl ?_
  refine jw_iload (pc' := 119) rfl rfl ?_
  refine jw_icmp_gt (tgt := 136) (pc' := 122) rfl rfl (fun c_1 => ?_) (fun c_1 => ?_)
  · replace w := w.1 c_1
    exact w_J10_indexOfUnsafe_136 hK94 w
  · replace w := w.2 c_1
    refine jw_aload_n (pc' := 123) rfl rfl ?_
    refine jw_iload (pc' := 125) rfl rfl ?_
    refine jw_cI (st := []) (sa := [vR 67 r0, vI (x7 + (1 : Int32))]) okJ10_getChar rfl rfl rfl rfl rfl rfl (jstp_static (sa := [vR 67 r0, vI (x7 + (1 : Int32))]) (st := []) rfl rfl sJ10_getChar okJ10_getChar rfl rfl) w (fun v_4 h_2 _ _ w => ?_)
    refine jw_iload (pc' := 130) rfl rfl ?_
    refine jw_icmp_eq (tgt := 136) (pc' := 133) rfl rfl (fun c_5 => ?_) (fun c_5 => ?_)
    · replace w := w.1 c_5
      exact w_J10_indexOfUnsafe_136 hK94 w
    · replace w := w.2 c_5
      refine jw_goto (pc' := 112) rfl rfl ?_
      exact hK112 _ _ _ _ _ _ _ w
def L_J10_indexOfUnsafe_112 (D : JD) (d : Nat) (Q : JO → JH → Prop) (K94 : Nat → Nat → Int32 → Int32 → Int32 → Int32 → JH → Prop) : Nat → Nat → Nat → Int32 → Int32 → Int32 → Int32 → JH → Prop
  | 0 => fun _ _ _ _ _ _ _ => False
  | n + 1 => fun r0 r2 x3 x5 x6 x7 h => W_J10_indexOfUnsafe_112 D d Q K94 (L_J10_indexOfUnsafe_112 D d Q K94 n) r0 r2 x3 x5 x6 x7 h
theorem l_J10_indexOfUnsafe_112 {D : JD} {d : Nat} {Q : JO → JH → Prop} {K94 : Nat → Nat → Int32 → Int32 → Int32 → Int32 → JH → Prop} (hK94 : ∀ (r0 : Nat) (r2 : Nat) (x3 : Int32) (x5 : Int32) (x6 : Int32) (x7 : Int32) (h : JH), K94 r0 r2 x3 x5 x6 x7 h → JW D (d + 1) mJ10_indexOfUnsafe 94 [some (vR 67 r0), none, some (vR 67 r2), some (vI x3), none, some (vI x5), some (vI x6), some (vI x7), none, none, none] [] h Q) : ∀ (n : Nat) (r0 : Nat) (r2 : Nat) (x3 : Int32) (x5 : Int32) (x6 : Int32) (x7 : Int32) (h : JH), L_J10_indexOfUnsafe_112 D d Q K94 n r0 r2 x3 x5 x6 x7 h → JW D (d + 1) mJ10_indexOfUnsafe 112 [some (vR 67 r0), none, some (vR 67 r2), some (vI x3), none, some (vI x5), some (vI x6), some (vI x7), none, none, none] [] h Q := by
  intro n
  induction n with
  | zero => intro _ _ _ _ _ _ _ w; exact w.elim
  | succ n ih => intro _ _ _ _ _ _ h w; exact w_J10_indexOfUnsafe_112 hK94 ih w
def W_J10_indexOfUnsafe_94 (D : JD) (d : Nat) (Q : JO → JH → Prop) (K94 : Nat → Nat → Int32 → Int32 → Int32 → Int32 → JH → Prop) (r0 : Nat) (r2 : Nat) (x3 : Int32) (x5 : Int32) (x6 : Int32) (x7 : Int32) (h : JH) : Prop :=
  (x6 < x7 → Q (.inl (some (vI (-1 : Int32)))) h) ∧ (¬ x6 < x7 → cJ10_getChar D d r0 x7 h (pI D h (fun v_4 h_2 => (v_4 = x5 → W_J10_indexOfUnsafe_136 D d Q K94 r0 r2 x3 x5 x6 x7 h_2) ∧ (¬ v_4 = x5 → ∃ n, L_J10_indexOfUnsafe_112 D d Q K94 n r0 r2 x3 x5 x6 x7 h_2)) (jth Q)))
theorem w_J10_indexOfUnsafe_94 {D : JD} {d : Nat} {Q : JO → JH → Prop} {K94 : Nat → Nat → Int32 → Int32 → Int32 → Int32 → JH → Prop} {r0 : Nat} {r2 : Nat} {x3 : Int32} {x5 : Int32} {x6 : Int32} {x7 : Int32} {h : JH} (hK94 : ∀ (r0 : Nat) (r2 : Nat) (x3 : Int32) (x5 : Int32) (x6 : Int32) (x7 : Int32) (h : JH), K94 r0 r2 x3 x5 x6 x7 h → JW D (d + 1) mJ10_indexOfUnsafe 94 [some (vR 67 r0), none, some (vR 67 r2), some (vI x3), none, some (vI x5), some (vI x6), some (vI x7), none, none, none] [] h Q) (w : W_J10_indexOfUnsafe_94 D d Q K94 r0 r2 x3 x5 x6 x7 h) : JW D (d + 1) mJ10_indexOfUnsafe 94 [some (vR 67 r0), none, some (vR 67 r2), some (vI x3), none, some (vI x5), some (vI x6), some (vI x7), none, none, none] [] h Q := by
  unfold W_J10_indexOfUnsafe_94 at w
  refine jw_iload (pc' := 96) rfl rfl ?_
  refine jw_iload (pc' := 98) rfl rfl ?_
  refine jw_icmp_gt (tgt := 207) (pc' := 101) rfl rfl (fun c_1 => ?_) (fun c_1 => ?_)
  · replace w := w.1 c_1
    refine jw_iconst (pc' := 208) (x := (-1 : Int32)) rfl rfl ?_
    exact jw_ireturn rfl rfl (rfl) w
  · replace w := w.2 c_1
    refine jw_aload_n (pc' := 102) rfl rfl ?_
    refine jw_iload (pc' := 104) rfl rfl ?_
    refine jw_cI (st := []) (sa := [vR 67 r0, vI x7]) okJ10_getChar rfl rfl rfl rfl rfl rfl (jstp_static (sa := [vR 67 r0, vI x7]) (st := []) rfl rfl sJ10_getChar okJ10_getChar rfl rfl) w (fun v_4 h_2 _ _ w => ?_)
    refine jw_iload (pc' := 109) rfl rfl ?_
    refine jw_icmp_eq (tgt := 136) (pc' := 112) rfl rfl (fun c_5 => ?_) (fun c_5 => ?_)
    · replace w := w.1 c_5
      exact w_J10_indexOfUnsafe_136 hK94 w
    · replace w := w.2 c_5
      obtain ⟨n, w⟩ := w
      exact l_J10_indexOfUnsafe_112 hK94 n _ _ _ _ _ _ _ w
def L_J10_indexOfUnsafe_94 (D : JD) (d : Nat) (Q : JO → JH → Prop) : Nat → Nat → Nat → Int32 → Int32 → Int32 → Int32 → JH → Prop
  | 0 => fun _ _ _ _ _ _ _ => False
  | n + 1 => fun r0 r2 x3 x5 x6 x7 h => W_J10_indexOfUnsafe_94 D d Q (L_J10_indexOfUnsafe_94 D d Q n) r0 r2 x3 x5 x6 x7 h
theorem l_J10_indexOfUnsafe_94 {D : JD} {d : Nat} {Q : JO → JH → Prop} : ∀ (n : Nat) (r0 : Nat) (r2 : Nat) (x3 : Int32) (x5 : Int32) (x6 : Int32) (x7 : Int32) (h : JH), L_J10_indexOfUnsafe_94 D d Q n r0 r2 x3 x5 x6 x7 h → JW D (d + 1) mJ10_indexOfUnsafe 94 [some (vR 67 r0), none, some (vR 67 r2), some (vI x3), none, some (vI x5), some (vI x6), some (vI x7), none, none, none] [] h Q := by
  intro n
  induction n with
  | zero => intro _ _ _ _ _ _ _ w; exact w.elim
  | succ n ih => intro _ _ _ _ _ _ h w; exact w_J10_indexOfUnsafe_94 ih w
def W_J10_indexOfUnsafe_78 (D : JD) (d : Nat) (Q : JO → JH → Prop) (r0 : Nat) (x1 : Int32) (r2 : Nat) (x3 : Int32) (x4 : Int32) (h : JH) : Prop :=
  cJ10_getChar D d r2 (0 : Int32) h (pI D h (fun v_3 h_1 => ∃ n, L_J10_indexOfUnsafe_94 D d Q n r0 r2 x3 v_3 (x1 - x3) x4 h_1) (jth Q))
theorem w_J10_indexOfUnsafe_78 {D : JD} {d : Nat} {Q : JO → JH → Prop} {r0 : Nat} {x1 : Int32} {r2 : Nat} {x3 : Int32} {x4 : Int32} {h : JH} (w : W_J10_indexOfUnsafe_78 D d Q r0 x1 r2 x3 x4 h) : JW D (d + 1) mJ10_indexOfUnsafe 78 [some (vR 67 r0), some (vI x1), some (vR 67 r2), some (vI x3), some (vI x4), none, none, none, none, none, none] [] h Q := by
  unfold W_J10_indexOfUnsafe_78 at w
  refine jw_aload_n (pc' := 79) rfl rfl ?_
  refine jw_iconst (pc' := 80) (x := (0 : Int32)) rfl rfl ?_
  refine jw_cI (st := []) (sa := [vR 67 r2, vI (0 : Int32)]) okJ10_getChar rfl rfl rfl rfl rfl rfl (jstp_static (sa := [vR 67 r2, vI (0 : Int32)]) (st := []) rfl rfl sJ10_getChar okJ10_getChar rfl rfl) w (fun v_3 h_1 _ _ w => ?_)
  refine jw_istore (pc' := 85) (ls' := [some (vR 67 r0), some (vI x1), some (vR 67 r2), some (vI x3), some (vI x4), some (vI v_3), none, none, none, none, none]) rfl (by decide) rfl ?_
  refine jw_iload_n (pc' := 86) rfl rfl ?_
  refine jw_iload_n (pc' := 87) rfl rfl ?_
  refine jw_isub (pc' := 88) rfl ?_
  refine jw_istore (pc' := 90) (ls' := [some (vR 67 r0), some (vI x1), some (vR 67 r2), some (vI x3), some (vI x4), some (vI v_3), some (vI (x1 - x3)), none, none, none, none]) rfl (by decide) rfl ?_
  refine jw_iload (pc' := 92) rfl rfl ?_
  refine jw_istore (pc' := 94) (ls' := [some (vR 67 r0), some (vI x1), some (vR 67 r2), some (vI x3), some (vI x4), some (vI v_3), some (vI (x1 - x3)), some (vI x4), none, none, none]) rfl (by decide) rfl ?_
  refine jw_gen (ls' := [some (vR 67 r0), none, some (vR 67 r2), some (vI x3), none, some (vI v_3), some (vI (x1 - x3)), some (vI x4), none, none, none]) (st' := []) (And.intro (Or.inl rfl) (And.intro (Or.inl rfl) (And.intro (Or.inl rfl) (And.intro (Or.inl rfl) (And.intro (Or.inl rfl) (And.intro (Or.inl rfl) (trivial))))))) (trivial) ?_
  obtain ⟨n, w⟩ := w
  exact l_J10_indexOfUnsafe_94 n _ _ _ _ _ _ _ w
def W_J10_indexOfUnsafe_59 (D : JD) (d : Nat) (Q : JO → JH → Prop) (r0 : Nat) (x1 : Int32) (r2 : Nat) (x3 : Int32) (x4 : Int32) (h : JH) : Prop :=
  W_J10_indexOfUnsafe_78 D d Q r0 x1 r2 x3 x4 h
theorem w_J10_indexOfUnsafe_59 {D : JD} {d : Nat} {Q : JO → JH → Prop} {r0 : Nat} {x1 : Int32} {r2 : Nat} {x3 : Int32} {x4 : Int32} {h : JH} (w : W_J10_indexOfUnsafe_59 D d Q r0 x1 r2 x3 x4 h) : JW D (d + 1) mJ10_indexOfUnsafe 59 [some (vR 67 r0), some (vI x1), some (vR 67 r2), some (vI x3), some (vI x4), none, none, none, none, none, none] [] h Q := by
  unfold W_J10_indexOfUnsafe_59 at w
  refine jw_getsI (pc' := 62) (v := (1 : Int32)) rfl rfl (by decide +kernel) ?_
  refine jw_if_ne (tgt := 78) (pc' := 65) rfl rfl (fun _ => ?_) (fun c_1 => absurd c_1 (by decide))
  exact w_J10_indexOfUnsafe_78 w
def W_J10_indexOfUnsafe_37 (D : JD) (d : Nat) (Q : JO → JH → Prop) (r0 : Nat) (x1 : Int32) (r2 : Nat) (x3 : Int32) (x4 : Int32) (h : JH) : Prop :=
  W_J10_indexOfUnsafe_59 D d Q r0 x1 r2 x3 x4 h
theorem w_J10_indexOfUnsafe_37 {D : JD} {d : Nat} {Q : JO → JH → Prop} {r0 : Nat} {x1 : Int32} {r2 : Nat} {x3 : Int32} {x4 : Int32} {h : JH} (w : W_J10_indexOfUnsafe_37 D d Q r0 x1 r2 x3 x4 h) : JW D (d + 1) mJ10_indexOfUnsafe 37 [some (vR 67 r0), some (vI x1), some (vR 67 r2), some (vI x3), some (vI x4), none, none, none, none, none, none] [] h Q := by
  unfold W_J10_indexOfUnsafe_37 at w
  refine jw_getsI (pc' := 40) (v := (1 : Int32)) rfl rfl (by decide +kernel) ?_
  refine jw_if_ne (tgt := 59) (pc' := 43) rfl rfl (fun _ => ?_) (fun c_1 => absurd c_1 (by decide))
  exact w_J10_indexOfUnsafe_59 w
def W_J10_indexOfUnsafe_19 (D : JD) (d : Nat) (Q : JO → JH → Prop) (r0 : Nat) (x1 : Int32) (r2 : Nat) (x3 : Int32) (x4 : Int32) (h : JH) : Prop :=
  W_J10_indexOfUnsafe_37 D d Q r0 x1 r2 x3 x4 h
theorem w_J10_indexOfUnsafe_19 {D : JD} {d : Nat} {Q : JO → JH → Prop} {r0 : Nat} {x1 : Int32} {r2 : Nat} {x3 : Int32} {x4 : Int32} {h : JH} (w : W_J10_indexOfUnsafe_19 D d Q r0 x1 r2 x3 x4 h) : JW D (d + 1) mJ10_indexOfUnsafe 19 [some (vR 67 r0), some (vI x1), some (vR 67 r2), some (vI x3), some (vI x4), none, none, none, none, none, none] [] h Q := by
  unfold W_J10_indexOfUnsafe_19 at w
  refine jw_getsI (pc' := 22) (v := (1 : Int32)) rfl rfl (by decide +kernel) ?_
  refine jw_if_ne (tgt := 37) (pc' := 25) rfl rfl (fun _ => ?_) (fun c_1 => absurd c_1 (by decide))
  exact w_J10_indexOfUnsafe_37 w
def W_J10_indexOfUnsafe_0 (D : JD) (d : Nat) (Q : JO → JH → Prop) (r0 : Nat) (x1 : Int32) (r2 : Nat) (x3 : Int32) (x4 : Int32) (h : JH) : Prop :=
  W_J10_indexOfUnsafe_19 D d Q r0 x1 r2 x3 x4 h
theorem w_J10_indexOfUnsafe_0 {D : JD} {d : Nat} {Q : JO → JH → Prop} {r0 : Nat} {x1 : Int32} {r2 : Nat} {x3 : Int32} {x4 : Int32} {h : JH} (w : W_J10_indexOfUnsafe_0 D d Q r0 x1 r2 x3 x4 h) : JW D (d + 1) mJ10_indexOfUnsafe 0 [some (vR 67 r0), some (vI x1), some (vR 67 r2), some (vI x3), some (vI x4), none, none, none, none, none, none] [] h Q := by
  unfold W_J10_indexOfUnsafe_0 at w
  refine jw_getsI (pc' := 3) (v := (1 : Int32)) rfl rfl (by decide +kernel) ?_
  refine jw_if_ne (tgt := 19) (pc' := 6) rfl rfl (fun _ => ?_) (fun c_1 => absurd c_1 (by decide))
  exact w_J10_indexOfUnsafe_19 w
def T_J10_indexOfUnsafe (D : JD) (d : Nat) (Q : JO → JH → Prop) (r0 : Nat) (x1 : Int32) (r2 : Nat) (x3 : Int32) (x4 : Int32) (h : JH) : Prop := W_J10_indexOfUnsafe_0 D d Q r0 x1 r2 x3 x4 h
theorem t_J10_indexOfUnsafe {D : JD} {d : Nat} {Q : JO → JH → Prop} {r0 : Nat} {x1 : Int32} {r2 : Nat} {x3 : Int32} {x4 : Int32} {h : JH} (w : T_J10_indexOfUnsafe D d Q r0 x1 r2 x3 x4 h) : cJ10_indexOfUnsafe D (d + 1) r0 x1 r2 x3 x4 h Q := by
  unfold T_J10_indexOfUnsafe at w
  unfold cJ10_indexOfUnsafe
  exact w_J10_indexOfUnsafe_0 w
def W_J10_indexOfLatin1_0 (D : JD) (d : Nat) (Q : JO → JH → Prop) (r0 : Nat) (r1 : Nat) (h : JH) : Prop :=
  r1 ≠ 0 ∧ ((¬ (nI (jln h r1)) = 0 → cJ10_length D d r0 h (pI D h (fun v_5 h_3 => ((nI (jln h_3 r1)) ≤ v_5 → cJ10_length D d r0 h_3 (pI D h_3 (fun v_9 h_7 => cJ10_indexOfLatin1Unsafe D d r0 v_9 r1 (nI (jln h_7 r1)) (0 : Int32) h_7 (pI D h_7 (fun v_12 h_10 => Q (.inl (some (vI v_12))) h_10) (jth Q))) (jth Q))) ∧ (¬ (nI (jln h_3 r1)) ≤ v_5 → Q (.inl (some (vI (-1 : Int32)))) h_3)) (jth Q))) ∧ ((nI (jln h r1)) = 0 → Q (.inl (some (vI (0 : Int32)))) h))
theorem w_J10_indexOfLatin1_0 {D : JD} {d : Nat} {Q : JO → JH → Prop} {r0 : Nat} {r1 : Nat} {h : JH} (w : W_J10_indexOfLatin1_0 D d Q r0 r1 h) : JW D (d + 1) mJ10_indexOfLatin1 0 [some (vR 67 r0), some (vR 67 r1)] [] h Q := by
  unfold W_J10_indexOfLatin1_0 at w
  refine jw_aload_n (pc' := 1) rfl rfl ?_
  obtain ⟨g_1, w⟩ := w
  refine jw_alen (pc' := 2) rfl rfl g_1 ?_
  refine jw_if_ne (tgt := 7) (pc' := 5) rfl rfl (fun c_2 => ?_) (fun c_2 => ?_)
  · replace w := w.1 c_2
    refine jw_aload_n (pc' := 8) rfl rfl ?_
    refine jw_cI (st := []) (sa := [vR 67 r0]) okJ10_length rfl rfl rfl rfl rfl rfl (jstp_static (sa := [vR 67 r0]) (st := []) rfl rfl sJ10_length okJ10_length rfl rfl) w (fun v_5 h_3 _ _ w => ?_)
    refine jw_aload_n (pc' := 12) rfl rfl ?_
    refine jw_alen (pc' := 13) rfl rfl g_1 ?_
    refine jw_icmp_ge (tgt := 18) (pc' := 16) rfl rfl (fun c_6 => ?_) (fun c_6 => ?_)
    · replace w := w.1 c_6
      refine jw_aload_n (pc' := 19) rfl rfl ?_
      refine jw_aload_n (pc' := 20) rfl rfl ?_
      refine jw_cI (st := [vR 67 r0]) (sa := [vR 67 r0]) okJ10_length rfl rfl rfl rfl rfl rfl (jstp_static (sa := [vR 67 r0]) (st := [vR 67 r0]) rfl rfl sJ10_length okJ10_length rfl rfl) w (fun v_9 h_7 _ _ w => ?_)
      refine jw_aload_n (pc' := 24) rfl rfl ?_
      refine jw_aload_n (pc' := 25) rfl rfl ?_
      refine jw_alen (pc' := 26) rfl rfl g_1 ?_
      refine jw_iconst (pc' := 27) (x := (0 : Int32)) rfl rfl ?_
      refine jw_cI (st := []) (sa := [vR 67 r0, vI v_9, vR 67 r1, vI (nI (jln h_7 r1)), vI (0 : Int32)]) okJ10_indexOfLatin1Unsafe rfl rfl rfl rfl rfl rfl (jstp_static (sa := [vR 67 r0, vI v_9, vR 67 r1, vI (nI (jln h_7 r1)), vI (0 : Int32)]) (st := []) rfl rfl sJ10_indexOfLatin1Unsafe okJ10_indexOfLatin1Unsafe rfl rfl) w (fun v_12 h_10 _ _ w => ?_)
      exact jw_ireturn rfl rfl (rfl) w
    · replace w := w.2 c_6
      refine jw_iconst (pc' := 17) (x := (-1 : Int32)) rfl rfl ?_
      exact jw_ireturn rfl rfl (rfl) w
  · replace w := w.2 c_2
    refine jw_iconst (pc' := 6) (x := (0 : Int32)) rfl rfl ?_
    exact jw_ireturn rfl rfl (rfl) w
def T_J10_indexOfLatin1 (D : JD) (d : Nat) (Q : JO → JH → Prop) (r0 : Nat) (r1 : Nat) (h : JH) : Prop := W_J10_indexOfLatin1_0 D d Q r0 r1 h
theorem t_J10_indexOfLatin1 {D : JD} {d : Nat} {Q : JO → JH → Prop} {r0 : Nat} {r1 : Nat} {h : JH} (w : T_J10_indexOfLatin1 D d Q r0 r1 h) : cJ10_indexOfLatin1 D (d + 1) r0 r1 h Q := by
  unfold T_J10_indexOfLatin1 at w
  unfold cJ10_indexOfLatin1
  exact w_J10_indexOfLatin1_0 w
def W_J10_indexOfLatin1Unsafe_204 (D : JD) (d : Nat) (Q : JO → JH → Prop) (K95 : Nat → Nat → Int32 → Int32 → Int32 → Int32 → JH → Prop) (r0 : Nat) (r2 : Nat) (x3 : Int32) (x5 : Int32) (x6 : Int32) (x7 : Int32) (h : JH) : Prop :=
  K95 r0 r2 x3 x5 x6 (x7 + (1 : Int32)) h
theorem w_J10_indexOfLatin1Unsafe_204 {D : JD} {d : Nat} {Q : JO → JH → Prop} {K95 : Nat → Nat → Int32 → Int32 → Int32 → Int32 → JH → Prop} {r0 : Nat} {r2 : Nat} {x3 : Int32} {x5 : Int32} {x6 : Int32} {x7 : Int32} {h : JH} (hK95 : ∀ (r0 : Nat) (r2 : Nat) (x3 : Int32) (x5 : Int32) (x6 : Int32) (x7 : Int32) (h : JH), K95 r0 r2 x3 x5 x6 x7 h → JW D (d + 1) mJ10_indexOfLatin1Unsafe 95 [some (vR 67 r0), none, some (vR 67 r2), some (vI x3), none, some (vI x5), some (vI x6), some (vI x7), none, none, none] [] h Q) (w : W_J10_indexOfLatin1Unsafe_204 D d Q K95 r0 r2 x3 x5 x6 x7 h) : JW D (d + 1) mJ10_indexOfLatin1Unsafe 204 [some (vR 67 r0), none, some (vR 67 r2), some (vI x3), none, some (vI x5), some (vI x6), some (vI x7), none, none, none] [] h Q := by
  unfold W_J10_indexOfLatin1Unsafe_204 at w
  refine jw_iinc (pc' := 207) (y := x7 + (1 : Int32)) (ls' := [some (vR 67 r0), none, some (vR 67 r2), some (vI x3), none, some (vI x5), some (vI x6), some (vI (x7 + (1 : Int32))), none, none, none]) rfl (by decide) rfl rfl rfl ?_
  refine jw_goto (pc' := 95) rfl rfl ?_
  exact hK95 _ _ _ _ _ _ _ w
def W_J10_indexOfLatin1Unsafe_194 (D : JD) (d : Nat) (Q : JO → JH → Prop) (K95 : Nat → Nat → Int32 → Int32 → Int32 → Int32 → JH → Prop) (r0 : Nat) (r2 : Nat) (x3 : Int32) (x5 : Int32) (x6 : Int32) (x7 : Int32) (x8 : Int32) (x9 : Int32) (h : JH) : Prop :=
  (¬ x8 = x9 → W_J10_indexOfLatin1Unsafe_204 D d Q K95 r0 r2 x3 x5 x6 x7 h) ∧ (x8 = x9 → Q (.inl (some (vI x7))) h)
theorem w_J10_indexOfLatin1Unsafe_194 {D : JD} {d : Nat} {Q : JO → JH → Prop} {K95 : Nat → Nat → Int32 → Int32 → Int32 → Int32 → JH → Prop} {r0 : Nat} {r2 : Nat} {x3 : Int32} {x5 : Int32} {x6 : Int32} {x7 : Int32} {x8 : Int32} {x9 : Int32} {h : JH} (hK95 : ∀ (r0 : Nat) (r2 : Nat) (x3 : Int32) (x5 : Int32) (x6 : Int32) (x7 : Int32) (h : JH), K95 r0 r2 x3 x5 x6 x7 h → JW D (d + 1) mJ10_indexOfLatin1Unsafe 95 [some (vR 67 r0), none, some (vR 67 r2), some (vI x3), none, some (vI x5), some (vI x6), some (vI x7), none, none, none] [] h Q) (w : W_J10_indexOfLatin1Unsafe_194 D d Q K95 r0 r2 x3 x5 x6 x7 x8 x9 h) : JW D (d + 1) mJ10_indexOfLatin1Unsafe 194 [some (vR 67 r0), none, some (vR 67 r2), some (vI x3), none, some (vI x5), some (vI x6), some (vI x7), some (vI x8), some (vI x9), none] [] h Q := by
  unfold W_J10_indexOfLatin1Unsafe_194 at w
  refine jw_iload (pc' := 196) rfl rfl ?_
  refine jw_iload (pc' := 198) rfl rfl ?_
  refine jw_icmp_ne (tgt := 204) (pc' := 201) rfl rfl (fun c_1 => ?_) (fun c_1 => ?_)
  · replace w := w.1 c_1
    refine jw_gen (ls' := [some (vR 67 r0), none, some (vR 67 r2), some (vI x3), none, some (vI x5), some (vI x6), some (vI x7), none, none, none]) (st' := []) (And.intro (Or.inl rfl) (And.intro (Or.inl rfl) (And.intro (Or.inl rfl) (And.intro (Or.inl rfl) (And.intro (Or.inl rfl) (And.intro (Or.inl rfl) (trivial))))))) (trivial) ?_
    exact w_J10_indexOfLatin1Unsafe_204 hK95 w
  · replace w := w.2 c_1
    refine jw_iload (pc' := 203) rfl rfl ?_
    exact jw_ireturn rfl rfl (rfl) w
def W_J10_indexOfLatin1Unsafe_161 (D : JD) (d : Nat) (Q : JO → JH → Prop) (K95 : Nat → Nat → Int32 → Int32 → Int32 → Int32 → JH → Prop) (K161 : Nat → Nat → Int32 → Int32 → Int32 → Int32 → Int32 → Int32 → Int32 → JH → Prop) (r0 : Nat) (r2 : Nat) (x3 : Int32) (x5 : Int32) (x6 : Int32) (x7 : Int32) (x8 : Int32) (x9 : Int32) (x10 : Int32) (h : JH) : Prop :=
  (x9 ≤ x8 → W_J10_indexOfLatin1Unsafe_194 D d Q K95 r0 r2 x3 x5 x6 x7 x8 x9 h) ∧ (¬ x9 ≤ x8 → cJ10_getChar D d r0 x8 h (pI D h (fun v_4 h_2 => r2 ≠ 0 ∧ jin x10 (jln h_2 r2) ∧ ((¬ v_4 = ((jai h_2 r2 (ixn x10)) &&& (255 : Int32)) → W_J10_indexOfLatin1Unsafe_194 D d Q K95 r0 r2 x3 x5 x6 x7 x8 x9 h_2) ∧ (v_4 = ((jai h_2 r2 (ixn x10)) &&& (255 : Int32)) → K161 r0 r2 x3 x5 x6 x7 (x8 + (1 : Int32)) x9 (x10 + (1 : Int32)) h_2))) (jth Q)))
theorem w_J10_indexOfLatin1Unsafe_161 {D : JD} {d : Nat} {Q : JO → JH → Prop} {K95 : Nat → Nat → Int32 → Int32 → Int32 → Int32 → JH → Prop} {K161 : Nat → Nat → Int32 → Int32 → Int32 → Int32 → Int32 → Int32 → Int32 → JH → Prop} {r0 : Nat} {r2 : Nat} {x3 : Int32} {x5 : Int32} {x6 : Int32} {x7 : Int32} {x8 : Int32} {x9 : Int32} {x10 : Int32} {h : JH} (hK95 : ∀ (r0 : Nat) (r2 : Nat) (x3 : Int32) (x5 : Int32) (x6 : Int32) (x7 : Int32) (h : JH), K95 r0 r2 x3 x5 x6 x7 h → JW D (d + 1) mJ10_indexOfLatin1Unsafe 95 [some (vR 67 r0), none, some (vR 67 r2), some (vI x3), none, some (vI x5), some (vI x6), some (vI x7), none, none, none] [] h Q) (hK161 : ∀ (r0 : Nat) (r2 : Nat) (x3 : Int32) (x5 : Int32) (x6 : Int32) (x7 : Int32) (x8 : Int32) (x9 : Int32) (x10 : Int32) (h : JH), K161 r0 r2 x3 x5 x6 x7 x8 x9 x10 h → JW D (d + 1) mJ10_indexOfLatin1Unsafe 161 [some (vR 67 r0), none, some (vR 67 r2), some (vI x3), none, some (vI x5), some (vI x6), some (vI x7), some (vI x8), some (vI x9), some (vI x10)] [] h Q) (w : W_J10_indexOfLatin1Unsafe_161 D d Q K95 K161 r0 r2 x3 x5 x6 x7 x8 x9 x10 h) : JW D (d + 1) mJ10_indexOfLatin1Unsafe 161 [some (vR 67 r0), none, some (vR 67 r2), some (vI x3), none, some (vI x5), some (vI x6), some (vI x7), some (vI x8), some (vI x9), some (vI x10)] [] h Q := by
  unfold W_J10_indexOfLatin1Unsafe_161 at w
  refine jw_iload (pc' := 163) rfl rfl ?_
  refine jw_iload (pc' := 165) rfl rfl ?_
  refine jw_icmp_ge (tgt := 194) (pc' := 168) rfl rfl (fun c_1 => ?_) (fun c_1 => ?_)
  · replace w := w.1 c_1
    refine jw_gen (ls' := [some (vR 67 r0), none, some (vR 67 r2), some (vI x3), none, some (vI x5), some (vI x6), some (vI x7), some (vI x8), some (vI x9), none]) (st' := []) (And.intro (Or.inl rfl) (And.intro (Or.inl rfl) (And.intro (Or.inl rfl) (And.intro (Or.inl rfl) (And.intro (Or.inl rfl) (And.intro (Or.inl rfl) (And.intro (Or.inl rfl) (And.intro (Or.inl rfl) (trivial))))))))) (trivial) ?_
    exact w_J10_indexOfLatin1Unsafe_194 hK95 w
  · replace w := w.2 c_1
    refine jw_aload_n (pc' := 169) rfl rfl ?_
    refine jw_iload (pc' := 171) rfl rfl ?_
    refine jw_cI (st := []) (sa := [vR 67 r0, vI x8]) okJ10_getChar rfl rfl rfl rfl rfl rfl (jstp_static (sa := [vR 67 r0, vI x8]) (st := []) rfl rfl sJ10_getChar okJ10_getChar rfl rfl) w (fun v_4 h_2 _ _ w => ?_)
    refine jw_aload_n (pc' := 175) rfl rfl ?_
    refine jw_iload (pc' := 177) rfl rfl ?_
    obtain ⟨g_5, w⟩ := w
    obtain ⟨g_6, w⟩ := w
    refine jw_bald (pc' := 178) rfl rfl rfl rfl g_5 g_6.ix g_6.2 ?_
    refine jw_sipush (pc' := 181) (x := (255 : Int32)) rfl rfl ?_
    refine jw_iand (pc' := 182) rfl ?_
    refine jw_icmp_ne (tgt := 194) (pc' := 185) rfl rfl (fun c_7 => ?_) (fun c_7 => ?_)
    · replace w := w.1 c_7
      refine jw_gen (ls' := [some (vR 67 r0), none, some (vR 67 r2), some (vI x3), none, some (vI x5), some (vI x6), some (vI x7), some (vI x8), some (vI x9), none]) (st' := []) (And.intro (Or.inl rfl) (And.intro (Or.inl rfl) (And.intro (Or.inl rfl) (And.intro (Or.inl rfl) (And.intro (Or.inl rfl) (And.intro (Or.inl rfl) (And.intro (Or.inl rfl) (And.intro (Or.inl rfl) (trivial))))))))) (trivial) ?_
      exact w_J10_indexOfLatin1Unsafe_194 hK95 w
    · replace w := w.2 c_7
      refine jw_iinc (pc' := 188) (y := x8 + (1 : Int32)) (ls' := [some (vR 67 r0), none, some (vR 67 r2), some (vI x3), none, some (vI x5), some (vI x6), some (vI x7), some (vI (x8 + (1 : Int32))), some (vI x9), some (vI x10)]) rfl (by decide) rfl rfl rfl ?_
      refine jw_iinc (pc' := 191) (y := x10 + (1 : Int32)) (ls' := [some (vR 67 r0), none, some (vR 67 r2), some (vI x3), none, some (vI x5), some (vI x6), some (vI x7), some (vI (x8 + (1 : Int32))), some (vI x9), some (vI (x10 + (1 : Int32)))]) rfl (by decide) rfl rfl rfl ?_
      refine jw_goto (pc' := 161) rfl rfl ?_
      exact hK161 _ _ _ _ _ _ _ _ _ _ w
def L_J10_indexOfLatin1Unsafe_161 (D : JD) (d : Nat) (Q : JO → JH → Prop) (K95 : Nat → Nat → Int32 → Int32 → Int32 → Int32 → JH → Prop) : Nat → Nat → Nat → Int32 → Int32 → Int32 → Int32 → Int32 → Int32 → Int32 → JH → Prop
  | 0 => fun _ _ _ _ _ _ _ _ _ _ => False
  | n + 1 => fun r0 r2 x3 x5 x6 x7 x8 x9 x10 h => W_J10_indexOfLatin1Unsafe_161 D d Q K95 (L_J10_indexOfLatin1Unsafe_161 D d Q K95 n) r0 r2 x3 x5 x6 x7 x8 x9 x10 h
theorem l_J10_indexOfLatin1Unsafe_161 {D : JD} {d : Nat} {Q : JO → JH → Prop} {K95 : Nat → Nat → Int32 → Int32 → Int32 → Int32 → JH → Prop} (hK95 : ∀ (r0 : Nat) (r2 : Nat) (x3 : Int32) (x5 : Int32) (x6 : Int32) (x7 : Int32) (h : JH), K95 r0 r2 x3 x5 x6 x7 h → JW D (d + 1) mJ10_indexOfLatin1Unsafe 95 [some (vR 67 r0), none, some (vR 67 r2), some (vI x3), none, some (vI x5), some (vI x6), some (vI x7), none, none, none] [] h Q) : ∀ (n : Nat) (r0 : Nat) (r2 : Nat) (x3 : Int32) (x5 : Int32) (x6 : Int32) (x7 : Int32) (x8 : Int32) (x9 : Int32) (x10 : Int32) (h : JH), L_J10_indexOfLatin1Unsafe_161 D d Q K95 n r0 r2 x3 x5 x6 x7 x8 x9 x10 h → JW D (d + 1) mJ10_indexOfLatin1Unsafe 161 [some (vR 67 r0), none, some (vR 67 r2), some (vI x3), none, some (vI x5), some (vI x6), some (vI x7), some (vI x8), some (vI x9), some (vI x10)] [] h Q := by
  intro n
  induction n with
  | zero => intro _ _ _ _ _ _ _ _ _ _ w; exact w.elim
  | succ n ih => intro _ _ _ _ _ _ _ _ _ h w; exact w_J10_indexOfLatin1Unsafe_161 hK95 ih w
def W_J10_indexOfLatin1Unsafe_137 (D : JD) (d : Nat) (Q : JO → JH → Prop) (K95 : Nat → Nat → Int32 → Int32 → Int32 → Int32 → JH → Prop) (r0 : Nat) (r2 : Nat) (x3 : Int32) (x5 : Int32) (x6 : Int32) (x7 : Int32) (h : JH) : Prop :=
  (x6 < x7 → W_J10_indexOfLatin1Unsafe_204 D d Q K95 r0 r2 x3 x5 x6 x7 h) ∧ (¬ x6 < x7 → ∃ n, L_J10_indexOfLatin1Unsafe_161 D d Q K95 n r0 r2 x3 x5 x6 x7 (x7 + (1 : Int32)) (((x7 + (1 : Int32)) + x3) - (1 : Int32)) (1 : Int32) h)
theorem w_J10_indexOfLatin1Unsafe_137 {D : JD} {d : Nat} {Q : JO → JH → Prop} {K95 : Nat → Nat → Int32 → Int32 → Int32 → Int32 → JH → Prop} {r0 : Nat} {r2 : Nat} {x3 : Int32} {x5 : Int32} {x6 : Int32} {x7 : Int32} {h : JH} (hK95 : ∀ (r0 : Nat) (r2 : Nat) (x3 : Int32) (x5 : Int32) (x6 : Int32) (x7 : Int32) (h : JH), K95 r0 r2 x3 x5 x6 x7 h → JW D (d + 1) mJ10_indexOfLatin1Unsafe 95 [some (vR 67 r0), none, some (vR 67 r2), some (vI x3), none, some (vI x5), some (vI x6), some (vI x7), none, none, none] [] h Q) (w : W_J10_indexOfLatin1Unsafe_137 D d Q K95 r0 r2 x3 x5 x6 x7 h) : JW D (d + 1) mJ10_indexOfLatin1Unsafe 137 [some (vR 67 r0), none, some (vR 67 r2), some (vI x3), none, some (vI x5), some (vI x6), some (vI x7), none, none, none] [] h Q := by
  unfold W_J10_indexOfLatin1Unsafe_137 at w
  refine jw_iload (pc' := 139) rfl rfl ?_
  refine jw_iload (pc' := 141) rfl rfl ?_
  refine jw_icmp_gt (tgt := 204) (pc' := 144) rfl rfl (fun c_1 => ?_) (fun c_1 => ?_)
  · replace w := w.1 c_1
    exact w_J10_indexOfLatin1Unsafe_204 hK95 w
  · replace w := w.2 c_1
    refine jw_iload (pc' := 146) rfl rfl ?_
    refine jw_iconst (pc' := 147) (x := (1 : Int32)) rfl rfl ?_
    refine jw_iadd (pc' := 148) rfl ?_
    refine jw_istore (pc' := 150) (ls' := [some (vR 67 r0), none, some (vR 67 r2), some (vI x3), none, some (vI x5), some (vI x6), some (vI x7), some (vI (x7 + (1 : Int32))), none, none]) rfl (by decide) rfl ?_
    refine jw_iload (pc' := 152) rfl rfl ?_
    refine jw_iload_n (pc' := 153) rfl rfl ?_
    refine jw_iadd (pc' := 154) rfl ?_
    refine jw_iconst (pc' := 155) (x := (1 : Int32)) rfl rfl ?_
    refine jw_isub (pc' := 156) rfl ?_
    refine jw_istore (pc' := 158) (ls' := [some (vR 67 r0), none, some (vR 67 r2), some (vI x3), none, some (vI x5), some (vI x6), some (vI x7), some (vI (x7 + (1 : Int32))), some (vI (((x7 + (1 : Int32)) + x3) - (1 : Int32))), none]) rfl (by decide) rfl ?_
    refine jw_iconst (pc' := 159) (x := (1 : Int32)) rfl rfl ?_
    refine jw_istore (pc' := 161) (ls' := [some (vR 67 r0), none, some (vR 67 r2), some (vI x3), none, some (vI x5), some (vI x6), some (vI x7), some (vI (x7 + (1 : Int32))), some (vI (((x7 + (1 : Int32)) + x3) - (1 : Int32))), some (vI (1 : Int32))]) rfl (by decide) rfl ?_
    obtain ⟨n, w⟩ := w
    exact l_J10_indexOfLatin1Unsafe_161 hK95 n _ _ _ _ _ _ _ _ _ _ w
def W_J10_indexOfLatin1Unsafe_113 (D : JD) (d : Nat) (Q : JO → JH → Prop) (K95 : Nat → Nat → Int32 → Int32 → Int32 → Int32 → JH → Prop) (K113 : Nat → Nat → Int32 → Int32 → Int32 → Int32 → JH → Prop) (r0 : Nat) (r2 : Nat) (x3 : Int32) (x5 : Int32) (x6 : Int32) (x7 : Int32) (h : JH) : Prop :=
  (x6 < (x7 + (1 : Int32)) → W_J10_indexOfLatin1Unsafe_137 D d Q K95 r0 r2 x3 x5 x6 (x7 + (1 : Int32)) h) ∧ (¬ x6 < (x7 + (1 : Int32)) → cJ10_getChar D d r0 (x7 + (1 : Int32)) h (pI D h (fun v_4 h_2 => (v_4 = x5 → W_J10_indexOfLatin1Unsafe_137 D d Q K95 r0 r2 x3 x5 x6 (x7 + (1 : Int32)) h_2) ∧ (¬ v_4 = x5 → K113 r0 r2 x3 x5 x6 (x7 + (1 : Int32)) h_2)) (jth Q)))
theorem w_J10_indexOfLatin1Unsafe_113 {D : JD} {d : Nat} {Q : JO → JH → Prop} {K95 : Nat → Nat → Int32 → Int32 → Int32 → Int32 → JH → Prop} {K113 : Nat → Nat → Int32 → Int32 → Int32 → Int32 → JH → Prop} {r0 : Nat} {r2 : Nat} {x3 : Int32} {x5 : Int32} {x6 : Int32} {x7 : Int32} {h : JH} (hK95 : ∀ (r0 : Nat) (r2 : Nat) (x3 : Int32) (x5 : Int32) (x6 : Int32) (x7 : Int32) (h : JH), K95 r0 r2 x3 x5 x6 x7 h → JW D (d + 1) mJ10_indexOfLatin1Unsafe 95 [some (vR 67 r0), none, some (vR 67 r2), some (vI x3), none, some (vI x5), some (vI x6), some (vI x7), none, none, none] [] h Q) (hK113 : ∀ (r0 : Nat) (r2 : Nat) (x3 : Int32) (x5 : Int32) (x6 : Int32) (x7 : Int32) (h : JH), K113 r0 r2 x3 x5 x6 x7 h → JW D (d + 1) mJ10_indexOfLatin1Unsafe 113 [some (vR 67 r0), none, some (vR 67 r2), some (vI x3), none, some (vI x5), some (vI x6), some (vI x7), none, none, none] [] h Q) (w : W_J10_indexOfLatin1Unsafe_113 D d Q K95 K113 r0 r2 x3 x5 x6 x7 h) : JW D (d + 1) mJ10_indexOfLatin1Unsafe 113 [some (vR 67 r0), none, some (vR 67 r2), some (vI x3), none, some (vI x5), some (vI x6), some (vI x7), none, none, none] [] h Q := by
  unfold W_J10_indexOfLatin1Unsafe_113 at w
  refine jw_iinc (pc' := 116) (y := x7 + (1 : Int32)) (ls' := [some (vR 67 r0), none, some (vR 67 r2), some (vI x3), none, some (vI x5), some (vI x6), some (vI (x7 + (1 : Int32))), none, none, none]) rfl (by decide) rfl rfl rfl ?_
  refine jw_iload (pc' := 118) rfl rfl ?_
  refine jw_iload (pc' := 120) rfl rfl ?_
  refine jw_icmp_gt (tgt := 137) (pc' := 123) rfl rfl (fun c_1 => ?_) (fun c_1 => ?_)
  · replace w := w.1 c_1
    exact w_J10_indexOfLatin1Unsafe_137 hK95 w
  · replace w := w.2 c_1
    refine jw_aload_n (pc' := 124) rfl rfl ?_
    refine jw_iload (pc' := 126) rfl rfl ?_
    refine jw_cI (st := []) (sa := [vR 67 r0, vI (x7 + (1 : Int32))]) okJ10_getChar rfl rfl rfl rfl rfl rfl (jstp_static (sa := [vR 67 r0, vI (x7 + (1 : Int32))]) (st := []) rfl rfl sJ10_getChar okJ10_getChar rfl rfl) w (fun v_4 h_2 _ _ w => ?_)
    refine jw_iload (pc' := 131) rfl rfl ?_
    refine jw_icmp_eq (tgt := 137) (pc' := 134) rfl rfl (fun c_5 => ?_) (fun c_5 => ?_)
    · replace w := w.1 c_5
      exact w_J10_indexOfLatin1Unsafe_137 hK95 w
    · replace w := w.2 c_5
      refine jw_goto (pc' := 113) rfl rfl ?_
      exact hK113 _ _ _ _ _ _ _ w
def L_J10_indexOfLatin1Unsafe_113 (D : JD) (d : Nat) (Q : JO → JH → Prop) (K95 : Nat → Nat → Int32 → Int32 → Int32 → Int32 → JH → Prop) : Nat → Nat → Nat → Int32 → Int32 → Int32 → Int32 → JH → Prop
  | 0 => fun _ _ _ _ _ _ _ => False
  | n + 1 => fun r0 r2 x3 x5 x6 x7 h => W_J10_indexOfLatin1Unsafe_113 D d Q K95 (L_J10_indexOfLatin1Unsafe_113 D d Q K95 n) r0 r2 x3 x5 x6 x7 h
theorem l_J10_indexOfLatin1Unsafe_113 {D : JD} {d : Nat} {Q : JO → JH → Prop} {K95 : Nat → Nat → Int32 → Int32 → Int32 → Int32 → JH → Prop} (hK95 : ∀ (r0 : Nat) (r2 : Nat) (x3 : Int32) (x5 : Int32) (x6 : Int32) (x7 : Int32) (h : JH), K95 r0 r2 x3 x5 x6 x7 h → JW D (d + 1) mJ10_indexOfLatin1Unsafe 95 [some (vR 67 r0), none, some (vR 67 r2), some (vI x3), none, some (vI x5), some (vI x6), some (vI x7), none, none, none] [] h Q) : ∀ (n : Nat) (r0 : Nat) (r2 : Nat) (x3 : Int32) (x5 : Int32) (x6 : Int32) (x7 : Int32) (h : JH), L_J10_indexOfLatin1Unsafe_113 D d Q K95 n r0 r2 x3 x5 x6 x7 h → JW D (d + 1) mJ10_indexOfLatin1Unsafe 113 [some (vR 67 r0), none, some (vR 67 r2), some (vI x3), none, some (vI x5), some (vI x6), some (vI x7), none, none, none] [] h Q := by
  intro n
  induction n with
  | zero => intro _ _ _ _ _ _ _ w; exact w.elim
  | succ n ih => intro _ _ _ _ _ _ h w; exact w_J10_indexOfLatin1Unsafe_113 hK95 ih w
def W_J10_indexOfLatin1Unsafe_95 (D : JD) (d : Nat) (Q : JO → JH → Prop) (K95 : Nat → Nat → Int32 → Int32 → Int32 → Int32 → JH → Prop) (r0 : Nat) (r2 : Nat) (x3 : Int32) (x5 : Int32) (x6 : Int32) (x7 : Int32) (h : JH) : Prop :=
  (x6 < x7 → Q (.inl (some (vI (-1 : Int32)))) h) ∧ (¬ x6 < x7 → cJ10_getChar D d r0 x7 h (pI D h (fun v_4 h_2 => (v_4 = x5 → W_J10_indexOfLatin1Unsafe_137 D d Q K95 r0 r2 x3 x5 x6 x7 h_2) ∧ (¬ v_4 = x5 → ∃ n, L_J10_indexOfLatin1Unsafe_113 D d Q K95 n r0 r2 x3 x5 x6 x7 h_2)) (jth Q)))
theorem w_J10_indexOfLatin1Unsafe_95 {D : JD} {d : Nat} {Q : JO → JH → Prop} {K95 : Nat → Nat → Int32 → Int32 → Int32 → Int32 → JH → Prop} {r0 : Nat} {r2 : Nat} {x3 : Int32} {x5 : Int32} {x6 : Int32} {x7 : Int32} {h : JH} (hK95 : ∀ (r0 : Nat) (r2 : Nat) (x3 : Int32) (x5 : Int32) (x6 : Int32) (x7 : Int32) (h : JH), K95 r0 r2 x3 x5 x6 x7 h → JW D (d + 1) mJ10_indexOfLatin1Unsafe 95 [some (vR 67 r0), none, some (vR 67 r2), some (vI x3), none, some (vI x5), some (vI x6), some (vI x7), none, none, none] [] h Q) (w : W_J10_indexOfLatin1Unsafe_95 D d Q K95 r0 r2 x3 x5 x6 x7 h) : JW D (d + 1) mJ10_indexOfLatin1Unsafe 95 [some (vR 67 r0), none, some (vR 67 r2), some (vI x3), none, some (vI x5), some (vI x6), some (vI x7), none, none, none] [] h Q := by
  unfold W_J10_indexOfLatin1Unsafe_95 at w
  refine jw_iload (pc' := 97) rfl rfl ?_
  refine jw_iload (pc' := 99) rfl rfl ?_
  refine jw_icmp_gt (tgt := 210) (pc' := 102) rfl rfl (fun c_1 => ?_) (fun c_1 => ?_)
  · replace w := w.1 c_1
    refine jw_iconst (pc' := 211) (x := (-1 : Int32)) rfl rfl ?_
    exact jw_ireturn rfl rfl (rfl) w
  · replace w := w.2 c_1
    refine jw_aload_n (pc' := 103) rfl rfl ?_
    refine jw_iload (pc' := 105) rfl rfl ?_
    refine jw_cI (st := []) (sa := [vR 67 r0, vI x7]) okJ10_getChar rfl rfl rfl rfl rfl rfl (jstp_static (sa := [vR 67 r0, vI x7]) (st := []) rfl rfl sJ10_getChar okJ10_getChar rfl rfl) w (fun v_4 h_2 _ _ w => ?_)
    refine jw_iload (pc' := 110) rfl rfl ?_
    refine jw_icmp_eq (tgt := 137) (pc' := 113) rfl rfl (fun c_5 => ?_) (fun c_5 => ?_)
    · replace w := w.1 c_5
      exact w_J10_indexOfLatin1Unsafe_137 hK95 w
    · replace w := w.2 c_5
      obtain ⟨n, w⟩ := w
      exact l_J10_indexOfLatin1Unsafe_113 hK95 n _ _ _ _ _ _ _ w
def L_J10_indexOfLatin1Unsafe_95 (D : JD) (d : Nat) (Q : JO → JH → Prop) : Nat → Nat → Nat → Int32 → Int32 → Int32 → Int32 → JH → Prop
  | 0 => fun _ _ _ _ _ _ _ => False
  | n + 1 => fun r0 r2 x3 x5 x6 x7 h => W_J10_indexOfLatin1Unsafe_95 D d Q (L_J10_indexOfLatin1Unsafe_95 D d Q n) r0 r2 x3 x5 x6 x7 h
theorem l_J10_indexOfLatin1Unsafe_95 {D : JD} {d : Nat} {Q : JO → JH → Prop} : ∀ (n : Nat) (r0 : Nat) (r2 : Nat) (x3 : Int32) (x5 : Int32) (x6 : Int32) (x7 : Int32) (h : JH), L_J10_indexOfLatin1Unsafe_95 D d Q n r0 r2 x3 x5 x6 x7 h → JW D (d + 1) mJ10_indexOfLatin1Unsafe 95 [some (vR 67 r0), none, some (vR 67 r2), some (vI x3), none, some (vI x5), some (vI x6), some (vI x7), none, none, none] [] h Q := by
  intro n
  induction n with
  | zero => intro _ _ _ _ _ _ _ w; exact w.elim
  | succ n ih => intro _ _ _ _ _ _ h w; exact w_J10_indexOfLatin1Unsafe_95 ih w
def W_J10_indexOfLatin1Unsafe_76 (D : JD) (d : Nat) (Q : JO → JH → Prop) (r0 : Nat) (x1 : Int32) (r2 : Nat) (x3 : Int32) (x4 : Int32) (h : JH) : Prop :=
  r2 ≠ 0 ∧ jin (0 : Int32) (jln h r2) ∧ (∃ n, L_J10_indexOfLatin1Unsafe_95 D d Q n r0 r2 x3 ((Int32.toUInt32 ((jai h r2 (ixn (0 : Int32))) &&& (255 : Int32)) % 65536).toInt32) (x1 - x3) x4 h)
theorem w_J10_indexOfLatin1Unsafe_76 {D : JD} {d : Nat} {Q : JO → JH → Prop} {r0 : Nat} {x1 : Int32} {r2 : Nat} {x3 : Int32} {x4 : Int32} {h : JH} (w : W_J10_indexOfLatin1Unsafe_76 D d Q r0 x1 r2 x3 x4 h) : JW D (d + 1) mJ10_indexOfLatin1Unsafe 76 [some (vR 67 r0), some (vI x1), some (vR 67 r2), some (vI x3), some (vI x4), none, none, none, none, none, none] [] h Q := by
  unfold W_J10_indexOfLatin1Unsafe_76 at w
  refine jw_aload_n (pc' := 77) rfl rfl ?_
  refine jw_iconst (pc' := 78) (x := (0 : Int32)) rfl rfl ?_
  obtain ⟨g_1, w⟩ := w
  obtain ⟨g_2, w⟩ := w
  refine jw_bald (pc' := 79) rfl rfl rfl rfl g_1 g_2.ix g_2.2 ?_
  refine jw_sipush (pc' := 82) (x := (255 : Int32)) rfl rfl ?_
  refine jw_iand (pc' := 83) rfl ?_
  refine jw_i2c (pc' := 84) rfl ?_
  refine jw_istore (pc' := 86) (ls' := [some (vR 67 r0), some (vI x1), some (vR 67 r2), some (vI x3), some (vI x4), some (vI ((Int32.toUInt32 ((jai h r2 (ixn (0 : Int32))) &&& (255 : Int32)) % 65536).toInt32)), none, none, none, none, none]) rfl (by decide) rfl ?_
  refine jw_iload_n (pc' := 87) rfl rfl ?_
  refine jw_iload_n (pc' := 88) rfl rfl ?_
  refine jw_isub (pc' := 89) rfl ?_
  refine jw_istore (pc' := 91) (ls' := [some (vR 67 r0), some (vI x1), some (vR 67 r2), some (vI x3), some (vI x4), some (vI ((Int32.toUInt32 ((jai h r2 (ixn (0 : Int32))) &&& (255 : Int32)) % 65536).toInt32)), some (vI (x1 - x3)), none, none, none, none]) rfl (by decide) rfl ?_
  refine jw_iload (pc' := 93) rfl rfl ?_
  refine jw_istore (pc' := 95) (ls' := [some (vR 67 r0), some (vI x1), some (vR 67 r2), some (vI x3), some (vI x4), some (vI ((Int32.toUInt32 ((jai h r2 (ixn (0 : Int32))) &&& (255 : Int32)) % 65536).toInt32)), some (vI (x1 - x3)), some (vI x4), none, none, none]) rfl (by decide) rfl ?_
  refine jw_gen (ls' := [some (vR 67 r0), none, some (vR 67 r2), some (vI x3), none, some (vI ((Int32.toUInt32 ((jai h r2 (ixn (0 : Int32))) &&& (255 : Int32)) % 65536).toInt32)), some (vI (x1 - x3)), some (vI x4), none, none, none]) (st' := []) (And.intro (Or.inl rfl) (And.intro (Or.inl rfl) (And.intro (Or.inl rfl) (And.intro (Or.inl rfl) (And.intro (Or.inl rfl) (And.intro (Or.inl rfl) (trivial))))))) (trivial) ?_
  obtain ⟨n, w⟩ := w
  exact l_J10_indexOfLatin1Unsafe_95 n _ _ _ _ _ _ _ w
def W_J10_indexOfLatin1Unsafe_57 (D : JD) (d : Nat) (Q : JO → JH → Prop) (r0 : Nat) (x1 : Int32) (r2 : Nat) (x3 : Int32) (x4 : Int32) (h : JH) : Prop :=
  W_J10_indexOfLatin1Unsafe_76 D d Q r0 x1 r2 x3 x4 h
theorem w_J10_indexOfLatin1Unsafe_57 {D : JD} {d : Nat} {Q : JO → JH → Prop} {r0 : Nat} {x1 : Int32} {r2 : Nat} {x3 : Int32} {x4 : Int32} {h : JH} (w : W_J10_indexOfLatin1Unsafe_57 D d Q r0 x1 r2 x3 x4 h) : JW D (d + 1) mJ10_indexOfLatin1Unsafe 57 [some (vR 67 r0), some (vI x1), some (vR 67 r2), some (vI x3), some (vI x4), none, none, none, none, none, none] [] h Q := by
  unfold W_J10_indexOfLatin1Unsafe_57 at w
  refine jw_getsI (pc' := 60) (v := (1 : Int32)) rfl rfl (by decide +kernel) ?_
  refine jw_if_ne (tgt := 76) (pc' := 63) rfl rfl (fun _ => ?_) (fun c_1 => absurd c_1 (by decide))
  exact w_J10_indexOfLatin1Unsafe_76 w
def W_J10_indexOfLatin1Unsafe_37 (D : JD) (d : Nat) (Q : JO → JH → Prop) (r0 : Nat) (x1 : Int32) (r2 : Nat) (x3 : Int32) (x4 : Int32) (h : JH) : Prop :=
  W_J10_indexOfLatin1Unsafe_57 D d Q r0 x1 r2 x3 x4 h
theorem w_J10_indexOfLatin1Unsafe_37 {D : JD} {d : Nat} {Q : JO → JH → Prop} {r0 : Nat} {x1 : Int32} {r2 : Nat} {x3 : Int32} {x4 : Int32} {h : JH} (w : W_J10_indexOfLatin1Unsafe_37 D d Q r0 x1 r2 x3 x4 h) : JW D (d + 1) mJ10_indexOfLatin1Unsafe 37 [some (vR 67 r0), some (vI x1), some (vR 67 r2), some (vI x3), some (vI x4), none, none, none, none, none, none] [] h Q := by
  unfold W_J10_indexOfLatin1Unsafe_37 at w
  refine jw_getsI (pc' := 40) (v := (1 : Int32)) rfl rfl (by decide +kernel) ?_
  refine jw_if_ne (tgt := 57) (pc' := 43) rfl rfl (fun _ => ?_) (fun c_1 => absurd c_1 (by decide))
  exact w_J10_indexOfLatin1Unsafe_57 w
def W_J10_indexOfLatin1Unsafe_19 (D : JD) (d : Nat) (Q : JO → JH → Prop) (r0 : Nat) (x1 : Int32) (r2 : Nat) (x3 : Int32) (x4 : Int32) (h : JH) : Prop :=
  W_J10_indexOfLatin1Unsafe_37 D d Q r0 x1 r2 x3 x4 h
theorem w_J10_indexOfLatin1Unsafe_19 {D : JD} {d : Nat} {Q : JO → JH → Prop} {r0 : Nat} {x1 : Int32} {r2 : Nat} {x3 : Int32} {x4 : Int32} {h : JH} (w : W_J10_indexOfLatin1Unsafe_19 D d Q r0 x1 r2 x3 x4 h) : JW D (d + 1) mJ10_indexOfLatin1Unsafe 19 [some (vR 67 r0), some (vI x1), some (vR 67 r2), some (vI x3), some (vI x4), none, none, none, none, none, none] [] h Q := by
  unfold W_J10_indexOfLatin1Unsafe_19 at w
  refine jw_getsI (pc' := 22) (v := (1 : Int32)) rfl rfl (by decide +kernel) ?_
  refine jw_if_ne (tgt := 37) (pc' := 25) rfl rfl (fun _ => ?_) (fun c_1 => absurd c_1 (by decide))
  exact w_J10_indexOfLatin1Unsafe_37 w
def W_J10_indexOfLatin1Unsafe_0 (D : JD) (d : Nat) (Q : JO → JH → Prop) (r0 : Nat) (x1 : Int32) (r2 : Nat) (x3 : Int32) (x4 : Int32) (h : JH) : Prop :=
  W_J10_indexOfLatin1Unsafe_19 D d Q r0 x1 r2 x3 x4 h
theorem w_J10_indexOfLatin1Unsafe_0 {D : JD} {d : Nat} {Q : JO → JH → Prop} {r0 : Nat} {x1 : Int32} {r2 : Nat} {x3 : Int32} {x4 : Int32} {h : JH} (w : W_J10_indexOfLatin1Unsafe_0 D d Q r0 x1 r2 x3 x4 h) : JW D (d + 1) mJ10_indexOfLatin1Unsafe 0 [some (vR 67 r0), some (vI x1), some (vR 67 r2), some (vI x3), some (vI x4), none, none, none, none, none, none] [] h Q := by
  unfold W_J10_indexOfLatin1Unsafe_0 at w
  refine jw_getsI (pc' := 3) (v := (1 : Int32)) rfl rfl (by decide +kernel) ?_
  refine jw_if_ne (tgt := 19) (pc' := 6) rfl rfl (fun _ => ?_) (fun c_1 => absurd c_1 (by decide))
  exact w_J10_indexOfLatin1Unsafe_19 w
def T_J10_indexOfLatin1Unsafe (D : JD) (d : Nat) (Q : JO → JH → Prop) (r0 : Nat) (x1 : Int32) (r2 : Nat) (x3 : Int32) (x4 : Int32) (h : JH) : Prop := W_J10_indexOfLatin1Unsafe_0 D d Q r0 x1 r2 x3 x4 h
theorem t_J10_indexOfLatin1Unsafe {D : JD} {d : Nat} {Q : JO → JH → Prop} {r0 : Nat} {x1 : Int32} {r2 : Nat} {x3 : Int32} {x4 : Int32} {h : JH} (w : T_J10_indexOfLatin1Unsafe D d Q r0 x1 r2 x3 x4 h) : cJ10_indexOfLatin1Unsafe D (d + 1) r0 x1 r2 x3 x4 h Q := by
  unfold T_J10_indexOfLatin1Unsafe at w
  unfold cJ10_indexOfLatin1Unsafe
  exact w_J10_indexOfLatin1Unsafe_0 w
def W_J10_indexOf_2_0 (D : JD) (d : Nat) (Q : JO → JH → Prop) (r0 : Nat) (x1 : Int32) (x2 : Int32) (x3 : Int32) (h : JH) : Prop :=
  cJ15_max D d x2 (0 : Int32) h (pI D h (fun v_3 h_1 => r0 ≠ 0 ∧ (cJ15_min D d x3 ((nI (jln h_1 r0)) >>> ((1 : Int32) &&& 31)) h_1 (pI D h_1 (fun v_7 h_5 => (v_3 < v_7 → ((65536 : Int32) ≤ x1 → cJ10_indexOfSupplementary D d r0 x1 v_3 v_7 h_5 (pI D h_5 (fun v_12 h_10 => Q (.inl (some (vI v_12))) h_10) (jth Q))) ∧ (¬ (65536 : Int32) ≤ x1 → cJ10_indexOfChar D d r0 x1 v_3 v_7 h_5 (pI D h_5 (fun v_15 h_13 => Q (.inl (some (vI v_15))) h_13) (jth Q)))) ∧ (¬ v_3 < v_7 → Q (.inl (some (vI (-1 : Int32)))) h_5)) (jth Q)))) (jth Q))
theorem w_J10_indexOf_2_0 {D : JD} {d : Nat} {Q : JO → JH → Prop} {r0 : Nat} {x1 : Int32} {x2 : Int32} {x3 : Int32} {h : JH} (w : W_J10_indexOf_2_0 D d Q r0 x1 x2 x3 h) : JW D (d + 1) mJ10_indexOf_2 0 [some (vR 67 r0), some (vI x1), some (vI x2), some (vI x3)] [] h Q := by
  unfold W_J10_indexOf_2_0 at w
  refine jw_iload_n (pc' := 1) rfl rfl ?_
  refine jw_iconst (pc' := 2) (x := (0 : Int32)) rfl rfl ?_
  refine jw_cI (st := []) (sa := [vI x2, vI (0 : Int32)]) okJ15_max rfl rfl rfl rfl rfl rfl (jstp_static (sa := [vI x2, vI (0 : Int32)]) (st := []) rfl rfl sJ15_max okJ15_max rfl rfl) w (fun v_3 h_1 _ _ w => ?_)
  refine jw_istore_n (pc' := 6) (ls' := [some (vR 67 r0), some (vI x1), some (vI v_3), some (vI x3)]) rfl (by decide) rfl ?_
  refine jw_iload_n (pc' := 7) rfl rfl ?_
  refine jw_aload_n (pc' := 8) rfl rfl ?_
  obtain ⟨g_4, w⟩ := w
  refine jw_alen (pc' := 9) rfl rfl g_4 ?_
  refine jw_iconst (pc' := 10) (x := (1 : Int32)) rfl rfl ?_
  refine jw_ishr (pc' := 11) rfl ?_
  refine jw_cI (st := []) (sa := [vI x3, vI ((nI (jln h_1 r0)) >>> ((1 : Int32) &&& 31))]) okJ15_min rfl rfl rfl rfl rfl rfl (jstp_static (sa := [vI x3, vI ((nI (jln h_1 r0)) >>> ((1 : Int32) &&& 31))]) (st := []) rfl rfl sJ15_min okJ15_min rfl rfl) w (fun v_7 h_5 _ _ w => ?_)
  refine jw_istore_n (pc' := 15) (ls' := [some (vR 67 r0), some (vI x1), some (vI v_3), some (vI v_7)]) rfl (by decide) rfl ?_
  refine jw_iload_n (pc' := 16) rfl rfl ?_
  refine jw_iload_n (pc' := 17) rfl rfl ?_
  refine jw_icmp_lt (tgt := 22) (pc' := 20) rfl rfl (fun c_8 => ?_) (fun c_8 => ?_)
  · replace w := w.1 c_8
    refine jw_iload_n (pc' := 23) rfl rfl ?_
    refine jw_ldcI (pc' := 25) (v := (65536 : Int32)) rfl rfl (by decide +kernel) ?_
    refine jw_icmp_ge (tgt := 36) (pc' := 28) rfl rfl (fun c_9 => ?_) (fun c_9 => ?_)
    · replace w := w.1 c_9
      refine jw_aload_n (pc' := 37) rfl rfl ?_
      refine jw_iload_n (pc' := 38) rfl rfl ?_
      refine jw_iload_n (pc' := 39) rfl rfl ?_
      refine jw_iload_n (pc' := 40) rfl rfl ?_
      refine jw_cI (st := []) (sa := [vR 67 r0, vI x1, vI v_3, vI v_7]) okJ10_indexOfSupplementary rfl rfl rfl rfl rfl rfl (jstp_static (sa := [vR 67 r0, vI x1, vI v_3, vI v_7]) (st := []) rfl rfl sJ10_indexOfSupplementary okJ10_indexOfSupplementary rfl rfl) w (fun v_12 h_10 _ _ w => ?_)
      exact jw_ireturn rfl rfl (rfl) w
    · replace w := w.2 c_9
      refine jw_aload_n (pc' := 29) rfl rfl ?_
      refine jw_iload_n (pc' := 30) rfl rfl ?_
      refine jw_iload_n (pc' := 31) rfl rfl ?_
      refine jw_iload_n (pc' := 32) rfl rfl ?_
      refine jw_cI (st := []) (sa := [vR 67 r0, vI x1, vI v_3, vI v_7]) okJ10_indexOfChar rfl rfl rfl rfl rfl rfl (jstp_static (sa := [vR 67 r0, vI x1, vI v_3, vI v_7]) (st := []) rfl rfl sJ10_indexOfChar okJ10_indexOfChar rfl rfl) w (fun v_15 h_13 _ _ w => ?_)
      exact jw_ireturn rfl rfl (rfl) w
  · replace w := w.2 c_8
    refine jw_iconst (pc' := 21) (x := (-1 : Int32)) rfl rfl ?_
    exact jw_ireturn rfl rfl (rfl) w
def T_J10_indexOf_2 (D : JD) (d : Nat) (Q : JO → JH → Prop) (r0 : Nat) (x1 : Int32) (x2 : Int32) (x3 : Int32) (h : JH) : Prop := W_J10_indexOf_2_0 D d Q r0 x1 x2 x3 h
theorem t_J10_indexOf_2 {D : JD} {d : Nat} {Q : JO → JH → Prop} {r0 : Nat} {x1 : Int32} {x2 : Int32} {x3 : Int32} {h : JH} (w : T_J10_indexOf_2 D d Q r0 x1 x2 x3 h) : cJ10_indexOf_2 D (d + 1) r0 x1 x2 x3 h Q := by
  unfold T_J10_indexOf_2 at w
  unfold cJ10_indexOf_2
  exact w_J10_indexOf_2_0 w
def W_J10_indexOfChar_0 (D : JD) (d : Nat) (Q : JO → JH → Prop) (r0 : Nat) (x1 : Int32) (x2 : Int32) (x3 : Int32) (h : JH) : Prop :=
  cJ10_checkBoundsBeginEnd D d x2 x3 r0 h (pV D h (fun h_1 => cJ10_indexOfCharUnsafe D d r0 x1 x2 x3 h_1 (pI D h_1 (fun v_6 h_4 => Q (.inl (some (vI v_6))) h_4) (jth Q))) (jth Q))
theorem w_J10_indexOfChar_0 {D : JD} {d : Nat} {Q : JO → JH → Prop} {r0 : Nat} {x1 : Int32} {x2 : Int32} {x3 : Int32} {h : JH} (w : W_J10_indexOfChar_0 D d Q r0 x1 x2 x3 h) : JW D (d + 1) mJ10_indexOfChar 0 [some (vR 67 r0), some (vI x1), some (vI x2), some (vI x3)] [] h Q := by
  unfold W_J10_indexOfChar_0 at w
  refine jw_iload_n (pc' := 1) rfl rfl ?_
  refine jw_iload_n (pc' := 2) rfl rfl ?_
  refine jw_aload_n (pc' := 3) rfl rfl ?_
  refine jw_cV (st := []) (sa := [vI x2, vI x3, vR 67 r0]) okJ10_checkBoundsBeginEnd rfl rfl rfl rfl rfl rfl (jstp_static (sa := [vI x2, vI x3, vR 67 r0]) (st := []) rfl rfl sJ10_checkBoundsBeginEnd okJ10_checkBoundsBeginEnd rfl rfl) w (fun h_1 _ _ w => ?_)
  refine jw_aload_n (pc' := 7) rfl rfl ?_
  refine jw_iload_n (pc' := 8) rfl rfl ?_
  refine jw_iload_n (pc' := 9) rfl rfl ?_
  refine jw_iload_n (pc' := 10) rfl rfl ?_
  refine jw_cI (st := []) (sa := [vR 67 r0, vI x1, vI x2, vI x3]) okJ10_indexOfCharUnsafe rfl rfl rfl rfl rfl rfl (jstp_static (sa := [vR 67 r0, vI x1, vI x2, vI x3]) (st := []) rfl rfl sJ10_indexOfCharUnsafe okJ10_indexOfCharUnsafe rfl rfl) w (fun v_6 h_4 _ _ w => ?_)
  exact jw_ireturn rfl rfl (rfl) w
def T_J10_indexOfChar (D : JD) (d : Nat) (Q : JO → JH → Prop) (r0 : Nat) (x1 : Int32) (x2 : Int32) (x3 : Int32) (h : JH) : Prop := W_J10_indexOfChar_0 D d Q r0 x1 x2 x3 h
theorem t_J10_indexOfChar {D : JD} {d : Nat} {Q : JO → JH → Prop} {r0 : Nat} {x1 : Int32} {x2 : Int32} {x3 : Int32} {h : JH} (w : T_J10_indexOfChar D d Q r0 x1 x2 x3 h) : cJ10_indexOfChar D (d + 1) r0 x1 x2 x3 h Q := by
  unfold T_J10_indexOfChar at w
  unfold cJ10_indexOfChar
  exact w_J10_indexOfChar_0 w
def W_J10_indexOfCharUnsafe_3 (D : JD) (d : Nat) (Q : JO → JH → Prop) (K3 : Nat → Int32 → Int32 → Int32 → JH → Prop) (r0 : Nat) (x1 : Int32) (x3 : Int32) (x4 : Int32) (h : JH) : Prop :=
  (x3 ≤ x4 → Q (.inl (some (vI (-1 : Int32)))) h) ∧ (¬ x3 ≤ x4 → cJ10_getChar D d r0 x4 h (pI D h (fun v_4 h_2 => (¬ v_4 = x1 → K3 r0 x1 x3 (x4 + (1 : Int32)) h_2) ∧ (v_4 = x1 → Q (.inl (some (vI x4))) h_2)) (jth Q)))
theorem w_J10_indexOfCharUnsafe_3 {D : JD} {d : Nat} {Q : JO → JH → Prop} {K3 : Nat → Int32 → Int32 → Int32 → JH → Prop} {r0 : Nat} {x1 : Int32} {x3 : Int32} {x4 : Int32} {h : JH} (hK3 : ∀ (r0 : Nat) (x1 : Int32) (x3 : Int32) (x4 : Int32) (h : JH), K3 r0 x1 x3 x4 h → JW D (d + 1) mJ10_indexOfCharUnsafe 3 [some (vR 67 r0), some (vI x1), none, some (vI x3), some (vI x4)] [] h Q) (w : W_J10_indexOfCharUnsafe_3 D d Q K3 r0 x1 x3 x4 h) : JW D (d + 1) mJ10_indexOfCharUnsafe 3 [some (vR 67 r0), some (vI x1), none, some (vI x3), some (vI x4)] [] h Q := by
  unfold W_J10_indexOfCharUnsafe_3 at w
  refine jw_iload (pc' := 5) rfl rfl ?_
  refine jw_iload_n (pc' := 6) rfl rfl ?_
  refine jw_icmp_ge (tgt := 28) (pc' := 9) rfl rfl (fun c_1 => ?_) (fun c_1 => ?_)
  · replace w := w.1 c_1
    refine jw_iconst (pc' := 29) (x := (-1 : Int32)) rfl rfl ?_
    exact jw_ireturn rfl rfl (rfl) w
  · replace w := w.2 c_1
    refine jw_aload_n (pc' := 10) rfl rfl ?_
    refine jw_iload (pc' := 12) rfl rfl ?_
    refine jw_cI (st := []) (sa := [vR 67 r0, vI x4]) okJ10_getChar rfl rfl rfl rfl rfl rfl (jstp_static (sa := [vR 67 r0, vI x4]) (st := []) rfl rfl sJ10_getChar okJ10_getChar rfl rfl) w (fun v_4 h_2 _ _ w => ?_)
    refine jw_iload_n (pc' := 16) rfl rfl ?_
    refine jw_icmp_ne (tgt := 22) (pc' := 19) rfl rfl (fun c_5 => ?_) (fun c_5 => ?_)
    · replace w := w.1 c_5
      refine jw_iinc (pc' := 25) (y := x4 + (1 : Int32)) (ls' := [some (vR 67 r0), some (vI x1), none, some (vI x3), some (vI (x4 + (1 : Int32)))]) rfl (by decide) rfl rfl rfl ?_
      refine jw_goto (pc' := 3) rfl rfl ?_
      exact hK3 _ _ _ _ _ w
    · replace w := w.2 c_5
      refine jw_iload (pc' := 21) rfl rfl ?_
      exact jw_ireturn rfl rfl (rfl) w
def L_J10_indexOfCharUnsafe_3 (D : JD) (d : Nat) (Q : JO → JH → Prop) : Nat → Nat → Int32 → Int32 → Int32 → JH → Prop
  | 0 => fun _ _ _ _ _ => False
  | n + 1 => fun r0 x1 x3 x4 h => W_J10_indexOfCharUnsafe_3 D d Q (L_J10_indexOfCharUnsafe_3 D d Q n) r0 x1 x3 x4 h
theorem l_J10_indexOfCharUnsafe_3 {D : JD} {d : Nat} {Q : JO → JH → Prop} : ∀ (n : Nat) (r0 : Nat) (x1 : Int32) (x3 : Int32) (x4 : Int32) (h : JH), L_J10_indexOfCharUnsafe_3 D d Q n r0 x1 x3 x4 h → JW D (d + 1) mJ10_indexOfCharUnsafe 3 [some (vR 67 r0), some (vI x1), none, some (vI x3), some (vI x4)] [] h Q := by
  intro n
  induction n with
  | zero => intro _ _ _ _ _ w; exact w.elim
  | succ n ih => intro _ _ _ _ h w; exact w_J10_indexOfCharUnsafe_3 ih w
def W_J10_indexOfCharUnsafe_0 (D : JD) (d : Nat) (Q : JO → JH → Prop) (r0 : Nat) (x1 : Int32) (x2 : Int32) (x3 : Int32) (h : JH) : Prop :=
  ∃ n, L_J10_indexOfCharUnsafe_3 D d Q n r0 x1 x3 x2 h
theorem w_J10_indexOfCharUnsafe_0 {D : JD} {d : Nat} {Q : JO → JH → Prop} {r0 : Nat} {x1 : Int32} {x2 : Int32} {x3 : Int32} {h : JH} (w : W_J10_indexOfCharUnsafe_0 D d Q r0 x1 x2 x3 h) : JW D (d + 1) mJ10_indexOfCharUnsafe 0 [some (vR 67 r0), some (vI x1), some (vI x2), some (vI x3), none] [] h Q := by
  unfold W_J10_indexOfCharUnsafe_0 at w
  refine jw_iload_n (pc' := 1) rfl rfl ?_
  refine jw_istore (pc' := 3) (ls' := [some (vR 67 r0), some (vI x1), some (vI x2), some (vI x3), some (vI x2)]) rfl (by decide) rfl ?_
  refine jw_gen (ls' := [some (vR 67 r0), some (vI x1), none, some (vI x3), some (vI x2)]) (st' := []) (And.intro (Or.inl rfl) (And.intro (Or.inl rfl) (And.intro (Or.inl rfl) (And.intro (Or.inl rfl) (trivial))))) (trivial) ?_
  obtain ⟨n, w⟩ := w
  exact l_J10_indexOfCharUnsafe_3 n _ _ _ _ _ w
def T_J10_indexOfCharUnsafe (D : JD) (d : Nat) (Q : JO → JH → Prop) (r0 : Nat) (x1 : Int32) (x2 : Int32) (x3 : Int32) (h : JH) : Prop := W_J10_indexOfCharUnsafe_0 D d Q r0 x1 x2 x3 h
theorem t_J10_indexOfCharUnsafe {D : JD} {d : Nat} {Q : JO → JH → Prop} {r0 : Nat} {x1 : Int32} {x2 : Int32} {x3 : Int32} {h : JH} (w : T_J10_indexOfCharUnsafe D d Q r0 x1 x2 x3 h) : cJ10_indexOfCharUnsafe D (d + 1) r0 x1 x2 x3 h Q := by
  unfold T_J10_indexOfCharUnsafe at w
  unfold cJ10_indexOfCharUnsafe
  exact w_J10_indexOfCharUnsafe_0 w
def W_J10_indexOfSupplementary_69 (D : JD) (d : Nat) (Q : JO → JH → Prop) (h : JH) : Prop :=
  Q (.inl (some (vI (-1 : Int32)))) h
theorem w_J10_indexOfSupplementary_69 {D : JD} {d : Nat} {Q : JO → JH → Prop} {h : JH} (w : W_J10_indexOfSupplementary_69 D d Q h) : JW D (d + 1) mJ10_indexOfSupplementary 69 [none, none, none, none, none, none, none] [] h Q := by
  unfold W_J10_indexOfSupplementary_69 at w
  refine jw_iconst (pc' := 70) (x := (-1 : Int32)) rfl rfl ?_
  exact jw_ireturn rfl rfl (rfl) w
def W_J10_indexOfSupplementary_63 (D : JD) (d : Nat) (Q : JO → JH → Prop) (K28 : Nat → Int32 → Int32 → Int32 → Int32 → JH → Prop) (r0 : Nat) (x3 : Int32) (x4 : Int32) (x5 : Int32) (x6 : Int32) (h : JH) : Prop :=
  K28 r0 x3 x4 x5 (x6 + (1 : Int32)) h
theorem w_J10_indexOfSupplementary_63 {D : JD} {d : Nat} {Q : JO → JH → Prop} {K28 : Nat → Int32 → Int32 → Int32 → Int32 → JH → Prop} {r0 : Nat} {x3 : Int32} {x4 : Int32} {x5 : Int32} {x6 : Int32} {h : JH} (hK28 : ∀ (r0 : Nat) (x3 : Int32) (x4 : Int32) (x5 : Int32) (x6 : Int32) (h : JH), K28 r0 x3 x4 x5 x6 h → JW D (d + 1) mJ10_indexOfSupplementary 28 [some (vR 67 r0), none, none, some (vI x3), some (vI x4), some (vI x5), some (vI x6)] [] h Q) (w : W_J10_indexOfSupplementary_63 D d Q K28 r0 x3 x4 x5 x6 h) : JW D (d + 1) mJ10_indexOfSupplementary 63 [some (vR 67 r0), none, none, some (vI x3), some (vI x4), some (vI x5), some (vI x6)] [] h Q := by
  unfold W_J10_indexOfSupplementary_63 at w
  refine jw_iinc (pc' := 66) (y := x6 + (1 : Int32)) (ls' := [some (vR 67 r0), none, none, some (vI x3), some (vI x4), some (vI x5), some (vI (x6 + (1 : Int32)))]) rfl (by decide) rfl rfl rfl ?_
  refine jw_goto (pc' := 28) rfl rfl ?_
  exact hK28 _ _ _ _ _ _ w
def W_J10_indexOfSupplementary_28 (D : JD) (d : Nat) (Q : JO → JH → Prop) (K28 : Nat → Int32 → Int32 → Int32 → Int32 → JH → Prop) (r0 : Nat) (x3 : Int32) (x4 : Int32) (x5 : Int32) (x6 : Int32) (h : JH) : Prop :=
  ((x3 - (1 : Int32)) ≤ x6 → W_J10_indexOfSupplementary_69 D d Q h) ∧ (¬ (x3 - (1 : Int32)) ≤ x6 → cJ10_getChar D d r0 x6 h (pI D h (fun v_4 h_2 => (¬ v_4 = x4 → W_J10_indexOfSupplementary_63 D d Q K28 r0 x3 x4 x5 x6 h_2) ∧ (v_4 = x4 → cJ10_getChar D d r0 (x6 + (1 : Int32)) h_2 (pI D h_2 (fun v_8 h_6 => (¬ v_8 = x5 → W_J10_indexOfSupplementary_63 D d Q K28 r0 x3 x4 x5 x6 h_6) ∧ (v_8 = x5 → Q (.inl (some (vI x6))) h_6)) (jth Q)))) (jth Q)))
theorem w_J10_indexOfSupplementary_28 {D : JD} {d : Nat} {Q : JO → JH → Prop} {K28 : Nat → Int32 → Int32 → Int32 → Int32 → JH → Prop} {r0 : Nat} {x3 : Int32} {x4 : Int32} {x5 : Int32} {x6 : Int32} {h : JH} (hK28 : ∀ (r0 : Nat) (x3 : Int32) (x4 : Int32) (x5 : Int32) (x6 : Int32) (h : JH), K28 r0 x3 x4 x5 x6 h → JW D (d + 1) mJ10_indexOfSupplementary 28 [some (vR 67 r0), none, none, some (vI x3), some (vI x4), some (vI x5), some (vI x6)] [] h Q) (w : W_J10_indexOfSupplementary_28 D d Q K28 r0 x3 x4 x5 x6 h) : JW D (d + 1) mJ10_indexOfSupplementary 28 [some (vR 67 r0), none, none, some (vI x3), some (vI x4), some (vI x5), some (vI x6)] [] h Q := by
  unfold W_J10_indexOfSupplementary_28 at w
  refine jw_iload (pc' := 30) rfl rfl ?_
  refine jw_iload_n (pc' := 31) rfl rfl ?_
  refine jw_iconst (pc' := 32) (x := (1 : Int32)) rfl rfl ?_
  refine jw_isub (pc' := 33) rfl ?_
  refine jw_icmp_ge (tgt := 69) (pc' := 36) rfl rfl (fun c_1 => ?_) (fun c_1 => ?_)
  · replace w := w.1 c_1
    refine jw_gen (ls' := [none, none, none, none, none, none, none]) (st' := []) (trivial) (trivial) ?_
    exact w_J10_indexOfSupplementary_69 w
  · replace w := w.2 c_1
    refine jw_aload_n (pc' := 37) rfl rfl ?_
    refine jw_iload (pc' := 39) rfl rfl ?_
    refine jw_cI (st := []) (sa := [vR 67 r0, vI x6]) okJ10_getChar rfl rfl rfl rfl rfl rfl (jstp_static (sa := [vR 67 r0, vI x6]) (st := []) rfl rfl sJ10_getChar okJ10_getChar rfl rfl) w (fun v_4 h_2 _ _ w => ?_)
    refine jw_iload (pc' := 44) rfl rfl ?_
    refine jw_icmp_ne (tgt := 63) (pc' := 47) rfl rfl (fun c_5 => ?_) (fun c_5 => ?_)
    · replace w := w.1 c_5
      exact w_J10_indexOfSupplementary_63 hK28 w
    · replace w := w.2 c_5
      refine jw_aload_n (pc' := 48) rfl rfl ?_
      refine jw_iload (pc' := 50) rfl rfl ?_
      refine jw_iconst (pc' := 51) (x := (1 : Int32)) rfl rfl ?_
      refine jw_iadd (pc' := 52) rfl ?_
      refine jw_cI (st := []) (sa := [vR 67 r0, vI (x6 + (1 : Int32))]) okJ10_getChar rfl rfl rfl rfl rfl rfl (jstp_static (sa := [vR 67 r0, vI (x6 + (1 : Int32))]) (st := []) rfl rfl sJ10_getChar okJ10_getChar rfl rfl) w (fun v_8 h_6 _ _ w => ?_)
      refine jw_iload (pc' := 57) rfl rfl ?_
      refine jw_icmp_ne (tgt := 63) (pc' := 60) rfl rfl (fun c_9 => ?_) (fun c_9 => ?_)
      · replace w := w.1 c_9
        exact w_J10_indexOfSupplementary_63 hK28 w
      · replace w := w.2 c_9
        refine jw_iload (pc' := 62) rfl rfl ?_
        exact jw_ireturn rfl rfl (rfl) w
def L_J10_indexOfSupplementary_28 (D : JD) (d : Nat) (Q : JO → JH → Prop) : Nat → Nat → Int32 → Int32 → Int32 → Int32 → JH → Prop
  | 0 => fun _ _ _ _ _ _ => False
  | n + 1 => fun r0 x3 x4 x5 x6 h => W_J10_indexOfSupplementary_28 D d Q (L_J10_indexOfSupplementary_28 D d Q n) r0 x3 x4 x5 x6 h
theorem l_J10_indexOfSupplementary_28 {D : JD} {d : Nat} {Q : JO → JH → Prop} : ∀ (n : Nat) (r0 : Nat) (x3 : Int32) (x4 : Int32) (x5 : Int32) (x6 : Int32) (h : JH), L_J10_indexOfSupplementary_28 D d Q n r0 x3 x4 x5 x6 h → JW D (d + 1) mJ10_indexOfSupplementary 28 [some (vR 67 r0), none, none, some (vI x3), some (vI x4), some (vI x5), some (vI x6)] [] h Q := by
  intro n
  induction n with
  | zero => intro _ _ _ _ _ _ w; exact w.elim
  | succ n ih => intro _ _ _ _ _ h w; exact w_J10_indexOfSupplementary_28 ih w
def W_J10_indexOfSupplementary_0 (D : JD) (d : Nat) (Q : JO → JH → Prop) (r0 : Nat) (x1 : Int32) (x2 : Int32) (x3 : Int32) (h : JH) : Prop :=
  cJ20_isValidCodePoint D d x1 h (pI D h (fun v_3 h_1 => (v_3 = 0 → W_J10_indexOfSupplementary_69 D d Q h_1) ∧ (¬ v_3 = 0 → cJ20_highSurrogate D d x1 h_1 (pI D h_1 (fun v_7 h_5 => cJ20_lowSurrogate D d x1 h_5 (pI D h_5 (fun v_10 h_8 => cJ10_checkBoundsBeginEnd D d x2 x3 r0 h_8 (pV D h_8 (fun h_11 => ∃ n, L_J10_indexOfSupplementary_28 D d Q n r0 x3 v_7 v_10 x2 h_11) (jth Q))) (jth Q))) (jth Q)))) (jth Q))
theorem w_J10_indexOfSupplementary_0 {D : JD} {d : Nat} {Q : JO → JH → Prop} {r0 : Nat} {x1 : Int32} {x2 : Int32} {x3 : Int32} {h : JH} (w : W_J10_indexOfSupplementary_0 D d Q r0 x1 x2 x3 h) : JW D (d + 1) mJ10_indexOfSupplementary 0 [some (vR 67 r0), some (vI x1), some (vI x2), some (vI x3), none, none, none] [] h Q := by
  unfold W_J10_indexOfSupplementary_0 at w
  refine jw_iload_n (pc' := 1) rfl rfl ?_
  refine jw_cI (st := []) (sa := [vI x1]) okJ20_isValidCodePoint rfl rfl rfl rfl rfl rfl (jstp_static (sa := [vI x1]) (st := []) rfl rfl sJ20_isValidCodePoint okJ20_isValidCodePoint rfl rfl) w (fun v_3 h_1 _ _ w => ?_)
  refine jw_if_eq (tgt := 69) (pc' := 7) rfl rfl (fun c_4 => ?_) (fun c_4 => ?_)
  · replace w := w.1 c_4
    refine jw_gen (ls' := [none, none, none, none, none, none, none]) (st' := []) (trivial) (trivial) ?_
    exact w_J10_indexOfSupplementary_69 w
  · replace w := w.2 c_4
    refine jw_iload_n (pc' := 8) rfl rfl ?_
    refine jw_cI (st := []) (sa := [vI x1]) okJ20_highSurrogate rfl rfl rfl rfl rfl rfl (jstp_static (sa := [vI x1]) (st := []) rfl rfl sJ20_highSurrogate okJ20_highSurrogate rfl rfl) w (fun v_7 h_5 _ _ w => ?_)
    refine jw_istore (pc' := 13) (ls' := [some (vR 67 r0), some (vI x1), some (vI x2), some (vI x3), some (vI v_7), none, none]) rfl (by decide) rfl ?_
    refine jw_iload_n (pc' := 14) rfl rfl ?_
    refine jw_cI (st := []) (sa := [vI x1]) okJ20_lowSurrogate rfl rfl rfl rfl rfl rfl (jstp_static (sa := [vI x1]) (st := []) rfl rfl sJ20_lowSurrogate okJ20_lowSurrogate rfl rfl) w (fun v_10 h_8 _ _ w => ?_)
    refine jw_istore (pc' := 19) (ls' := [some (vR 67 r0), some (vI x1), some (vI x2), some (vI x3), some (vI v_7), some (vI v_10), none]) rfl (by decide) rfl ?_
    refine jw_iload_n (pc' := 20) rfl rfl ?_
    refine jw_iload_n (pc' := 21) rfl rfl ?_
    refine jw_aload_n (pc' := 22) rfl rfl ?_
    refine jw_cV (st := []) (sa := [vI x2, vI x3, vR 67 r0]) okJ10_checkBoundsBeginEnd rfl rfl rfl rfl rfl rfl (jstp_static (sa := [vI x2, vI x3, vR 67 r0]) (st := []) rfl rfl sJ10_checkBoundsBeginEnd okJ10_checkBoundsBeginEnd rfl rfl) w (fun h_11 _ _ w => ?_)
    refine jw_iload_n (pc' := 26) rfl rfl ?_
    refine jw_istore (pc' := 28) (ls' := [some (vR 67 r0), some (vI x1), some (vI x2), some (vI x3), some (vI v_7), some (vI v_10), some (vI x2)]) rfl (by decide) rfl ?_
    refine jw_gen (ls' := [some (vR 67 r0), none, none, some (vI x3), some (vI v_7), some (vI v_10), some (vI x2)]) (st' := []) (And.intro (Or.inl rfl) (And.intro (Or.inl rfl) (And.intro (Or.inl rfl) (And.intro (Or.inl rfl) (And.intro (Or.inl rfl) (trivial)))))) (trivial) ?_
    obtain ⟨n, w⟩ := w
    exact l_J10_indexOfSupplementary_28 n _ _ _ _ _ _ w
def T_J10_indexOfSupplementary (D : JD) (d : Nat) (Q : JO → JH → Prop) (r0 : Nat) (x1 : Int32) (x2 : Int32) (x3 : Int32) (h : JH) : Prop := W_J10_indexOfSupplementary_0 D d Q r0 x1 x2 x3 h
theorem t_J10_indexOfSupplementary {D : JD} {d : Nat} {Q : JO → JH → Prop} {r0 : Nat} {x1 : Int32} {x2 : Int32} {x3 : Int32} {h : JH} (w : T_J10_indexOfSupplementary D d Q r0 x1 x2 x3 h) : cJ10_indexOfSupplementary D (d + 1) r0 x1 x2 x3 h Q := by
  unfold T_J10_indexOfSupplementary at w
  unfold cJ10_indexOfSupplementary
  exact w_J10_indexOfSupplementary_0 w
def W_J11_ordinal_0 (D : JD) (d : Nat) (Q : JO → JH → Prop) (r0 : Nat) (h : JH) : Prop :=
  r0 ≠ 0 ∧ (Q (.inl (some (vI (jfi h 327 r0)))) h)
theorem w_J11_ordinal_0 {D : JD} {d : Nat} {Q : JO → JH → Prop} {r0 : Nat} {h : JH} (w : W_J11_ordinal_0 D d Q r0 h) : JW D (d + 1) mJ11_ordinal 0 [some (vR 63 r0)] [] h Q := by
  unfold W_J11_ordinal_0 at w
  refine jw_aload_n (pc' := 1) rfl rfl ?_
  obtain ⟨g_1, w⟩ := w
  refine jw_getI (pc' := 4) (F := 327) rfl rfl rfl rfl g_1 ?_
  exact jw_ireturn rfl rfl (rfl) w
def T_J11_ordinal (D : JD) (d : Nat) (Q : JO → JH → Prop) (r0 : Nat) (h : JH) : Prop := W_J11_ordinal_0 D d Q r0 h
theorem t_J11_ordinal {D : JD} {d : Nat} {Q : JO → JH → Prop} {r0 : Nat} {h : JH} (w : T_J11_ordinal D d Q r0 h) : cJ11_ordinal D (d + 1) r0 h Q := by
  unfold T_J11_ordinal at w
  unfold cJ11_ordinal
  exact w_J11_ordinal_0 w
def W_J12_init_38 (D : JD) (d : Nat) (Q : JO → JH → Prop) (h : JH) : Prop :=
  Q (.inl none) h
theorem w_J12_init_38 {D : JD} {d : Nat} {Q : JO → JH → Prop} {h : JH} (w : W_J12_init_38 D d Q h) : JW D (d + 1) mJ12_init 38 [none, none] [] h Q := by
  unfold W_J12_init_38 at w
  exact jw_return rfl rfl w
def W_J12_init_0 (D : JD) (d : Nat) (Q : JO → JH → Prop) (r0 : Nat) (x1 : Int32) (h : JH) : Prop :=
  r0 ≠ 0 ∧ (jsm x1 ∧ ∀ (r_3 : Nat) (h_4 : JH), r_3 = jsz h + 1 → h_4 = nwa h 220 (ixn x1) → (∀ h_8 : JH, h_8 = wfr h_4 71 r0 r_3 → (∀ h_10 : JH, h_10 = wfi h_8 72 r0 (0 : Int32) → (W_J12_init_38 D d Q h_10))))
theorem w_J12_init_0 {D : JD} {d : Nat} {Q : JO → JH → Prop} {r0 : Nat} {x1 : Int32} {h : JH} (w : W_J12_init_0 D d Q r0 x1 h) : JW D (d + 1) mJ12_init 0 [some (vR 62 r0), some (vI x1)] [] h Q := by
  unfold W_J12_init_0 at w
  refine jw_aload_n (pc' := 1) rfl rfl ?_
  obtain ⟨g_1, w⟩ := w
  refine jw_obj (pc' := 4) rfl (lw_g (jtb_mem (c := 3) (i := 138) rfl) rfl) rfl g_1 ?_
  refine jw_getsI (pc' := 7) (v := (1 : Int32)) rfl rfl (by decide +kernel) ?_
  refine jw_if_eq (tgt := 25) (pc' := 10) rfl rfl (fun c_2 => absurd c_2 (by decide)) (fun _ => ?_)
  refine jw_aload_n (pc' := 11) rfl rfl ?_
  refine jw_iload_n (pc' := 12) rfl rfl ?_
  obtain ⟨g_7, w⟩ := w
  refine jw_newa' (pc' := 14) (n := ixn x1) (k := 220) rfl rfl rfl rfl rfl rfl (lw_g (jtb_mem (c := 1) (i := 105) rfl) rfl) g_7.ix g_7.b1 (fun r_3 h_4 e_5 e_6 => ?_)
  replace w := w r_3 h_4 e_5 e_6
  refine jw_putR' (pc' := 17) (F := 71) rfl rfl rfl (Or.inr rfl) (Or.inl rfl) rfl rfl rfl g_1 (fun h_8 e_9 => ?_)
  replace w := w h_8 e_9
  refine jw_aload_n (pc' := 18) rfl rfl ?_
  refine jw_iconst (pc' := 19) (x := (0 : Int32)) rfl rfl ?_
  refine jw_putI' (pc' := 22) (F := 72) rfl rfl rfl (Or.inr rfl) (Or.inl rfl) rfl (rfl) (rfl) rfl g_1 (fun h_10 e_11 => ?_)
  replace w := w h_10 e_11
  refine jw_goto (pc' := 38) rfl rfl ?_
  refine jw_gen (ls' := [none, none]) (st' := []) (trivial) (trivial) ?_
  exact w_J12_init_38 w
def T_J12_init (D : JD) (d : Nat) (Q : JO → JH → Prop) (r0 : Nat) (x1 : Int32) (h : JH) : Prop := W_J12_init_0 D d Q r0 x1 h
theorem t_J12_init {D : JD} {d : Nat} {Q : JO → JH → Prop} {r0 : Nat} {x1 : Int32} {h : JH} (w : T_J12_init D d Q r0 x1 h) : cJ12_init D (d + 1) r0 x1 h Q := by
  unfold T_J12_init at w
  unfold cJ12_init
  exact w_J12_init_0 w
def W_J12_append_75 (D : JD) (d : Nat) (Q : JO → JH → Prop) (r0 : Nat) (h : JH) : Prop :=
  Q (.inl (some (vR 62 r0))) h
theorem w_J12_append_75 {D : JD} {d : Nat} {Q : JO → JH → Prop} {r0 : Nat} {h : JH} (w : W_J12_append_75 D d Q r0 h) : JW D (d + 1) mJ12_append 75 [some (vR 62 r0), none] [] h Q := by
  unfold W_J12_append_75 at w
  refine jw_aload_n (pc' := 76) rfl rfl ?_
  exact jw_areturn rfl rfl rfl rfl rfl w
def W_J12_append_56 (D : JD) (d : Nat) (Q : JO → JH → Prop) (r0 : Nat) (x1 : Int32) (h : JH) : Prop :=
  r0 ≠ 0 ∧ (∀ h_2 : JH, h_2 = wfi h 74 r0 ((jfi h 74 r0) + (1 : Int32)) → (cJ10_putCharSB D d (jfr h 71 r0) (jfi h 74 r0) x1 h_2 (pV D h_2 (fun h_4 => W_J12_append_75 D d Q r0 h_4) (jth Q))))
theorem w_J12_append_56 {D : JD} {d : Nat} {Q : JO → JH → Prop} {r0 : Nat} {x1 : Int32} {h : JH} (w : W_J12_append_56 D d Q r0 x1 h) : JW D (d + 1) mJ12_append 56 [some (vR 62 r0), some (vI x1)] [] h Q := by
  unfold W_J12_append_56 at w
  refine jw_aload_n (pc' := 57) rfl rfl ?_
  obtain ⟨g_1, w⟩ := w
  refine jw_getR (pc' := 60) (F := 71) (t' := 65) rfl rfl rfl rfl rfl g_1 ?_
  refine jw_aload_n (pc' := 61) rfl rfl ?_
  refine jw_dup (pc' := 62) rfl rfl ?_
  refine jw_getI (pc' := 65) (F := 74) rfl rfl rfl rfl g_1 ?_
  refine jw_dup_x1 (pc' := 66) rfl rfl rfl ?_
  refine jw_iconst (pc' := 67) (x := (1 : Int32)) rfl rfl ?_
  refine jw_iadd (pc' := 68) rfl ?_
  refine jw_putI' (pc' := 71) (F := 74) rfl rfl rfl (Or.inr rfl) (Or.inl rfl) rfl (rfl) (rfl) rfl g_1 (fun h_2 e_3 => ?_)
  replace w := w h_2 e_3
  refine jw_iload_n (pc' := 72) rfl rfl ?_
  refine jw_cV (st := []) (sa := [vR 65 (jfr h 71 r0), vI (jfi h 74 r0), vI x1]) okJ10_putCharSB rfl rfl rfl rfl rfl rfl (jstp_static (sa := [vR 65 (jfr h 71 r0), vI (jfi h 74 r0), vI x1]) (st := []) rfl rfl sJ10_putCharSB okJ10_putCharSB rfl rfl) w (fun h_4 _ _ w => ?_)
  refine jw_gen (ls' := [some (vR 62 r0), none]) (st' := []) (And.intro (Or.inl rfl) (trivial)) (trivial) ?_
  exact w_J12_append_75 w
def W_J12_append_45 (D : JD) (d : Nat) (Q : JO → JH → Prop) (r0 : Nat) (x1 : Int32) (h : JH) : Prop :=
  r0 ≠ 0 ∧ (cJ12_isLatin1 D d r0 h (pI D h (fun v_4 h_2 => (v_4 = 0 → W_J12_append_56 D d Q r0 x1 h_2) ∧ (¬ v_4 = 0 → cJ12_inflate D d r0 h_2 (pV D h_2 (fun h_6 => W_J12_append_56 D d Q r0 x1 h_6) (jth Q)))) (jth Q)))
theorem w_J12_append_45 {D : JD} {d : Nat} {Q : JO → JH → Prop} {r0 : Nat} {x1 : Int32} {h : JH} (w : W_J12_append_45 D d Q r0 x1 h) : JW D (d + 1) mJ12_append 45 [some (vR 62 r0), some (vI x1)] [] h Q := by
  unfold W_J12_append_45 at w
  refine jw_aload_n (pc' := 46) rfl rfl ?_
  obtain ⟨g_1, w⟩ := w
  refine jw_cI (st := []) (sa := [vR 62 r0]) okJ12_isLatin1 rfl rfl rfl rfl rfl rfl (jstp_up (sa := []) (st := []) rfl (lw_g (jtb_mem (c := 3) (i := 201) rfl) rfl) um0 okJ12_isLatin1 g_1 (one62.k g_1) rfl rfl) w (fun v_4 h_2 _ _ w => ?_)
  refine jw_if_eq (tgt := 56) (pc' := 52) rfl rfl (fun c_5 => ?_) (fun c_5 => ?_)
  · replace w := w.1 c_5
    exact w_J12_append_56 w
  · replace w := w.2 c_5
    refine jw_aload_n (pc' := 53) rfl rfl ?_
    refine jw_cV (st := []) (sa := [vR 62 r0]) okJ12_inflate rfl rfl rfl rfl rfl rfl (jstp_priv (sa := []) (st := []) rfl rfl jpmJ12_inflate (jtb_mem (c := 3) (i := 210) rfl) okJ12_inflate g_1 rfl rfl) w (fun h_6 _ _ w => ?_)
    exact w_J12_append_56 w
def W_J12_append_0 (D : JD) (d : Nat) (Q : JO → JH → Prop) (r0 : Nat) (x1 : Int32) (h : JH) : Prop :=
  r0 ≠ 0 ∧ (cJ12_ensureCapacityInternal D d r0 ((jfi h 74 r0) + (1 : Int32)) h (pV D h (fun h_2 => cJ12_isLatin1 D d r0 h_2 (pI D h_2 (fun v_7 h_5 => (v_7 = 0 → W_J12_append_45 D d Q r0 x1 h_5) ∧ (¬ v_7 = 0 → cJ8_canEncode D d x1 h_5 (pI D h_5 (fun v_11 h_9 => (v_11 = 0 → W_J12_append_45 D d Q r0 x1 h_9) ∧ (¬ v_11 = 0 → ∀ h_13 : JH, h_13 = wfi h_9 74 r0 ((jfi h_9 74 r0) + (1 : Int32)) → ((jfr h_9 71 r0) ≠ 0 ∧ jin (jfi h_9 74 r0) (jln h_13 (jfr h_9 71 r0)) ∧ ∀ h_17 : JH, h_17 = wai h_13 (jfr h_9 71 r0) (ixn (jfi h_9 74 r0)) ((Int32.toInt8 ((Int32.toInt8 x1).toInt32)).toInt32) → (W_J12_append_75 D d Q r0 h_17)))) (jth Q)))) (jth Q))) (jth Q)))
theorem w_J12_append_0 {D : JD} {d : Nat} {Q : JO → JH → Prop} {r0 : Nat} {x1 : Int32} {h : JH} (w : W_J12_append_0 D d Q r0 x1 h) : JW D (d + 1) mJ12_append 0 [some (vR 62 r0), some (vI x1)] [] h Q := by
  unfold W_J12_append_0 at w
  refine jw_aload_n (pc' := 1) rfl rfl ?_
  refine jw_aload_n (pc' := 2) rfl rfl ?_
  obtain ⟨g_1, w⟩ := w
  refine jw_getI (pc' := 5) (F := 74) rfl rfl rfl rfl g_1 ?_
  refine jw_iconst (pc' := 6) (x := (1 : Int32)) rfl rfl ?_
  refine jw_iadd (pc' := 7) rfl ?_
  refine jw_cV (st := []) (sa := [vR 62 r0, vI ((jfi h 74 r0) + (1 : Int32))]) okJ12_ensureCapacityInternal rfl rfl rfl rfl rfl rfl (jstp_priv (sa := [vI ((jfi h 74 r0) + (1 : Int32))]) (st := []) rfl rfl jpmJ12_ensureCapacityInternal (jtb_mem (c := 3) (i := 169) rfl) okJ12_ensureCapacityInternal g_1 rfl rfl) w (fun h_2 _ _ w => ?_)
  refine jw_aload_n (pc' := 11) rfl rfl ?_
  refine jw_cI (st := []) (sa := [vR 62 r0]) okJ12_isLatin1 rfl rfl rfl rfl rfl rfl (jstp_up (sa := []) (st := []) rfl (lw_g (jtb_mem (c := 3) (i := 201) rfl) rfl) um0 okJ12_isLatin1 g_1 (one62.k g_1) rfl rfl) w (fun v_7 h_5 _ _ w => ?_)
  refine jw_if_eq (tgt := 45) (pc' := 17) rfl rfl (fun c_8 => ?_) (fun c_8 => ?_)
  · replace w := w.1 c_8
    exact w_J12_append_45 w
  · replace w := w.2 c_8
    refine jw_iload_n (pc' := 18) rfl rfl ?_
    refine jw_cI (st := []) (sa := [vI x1]) okJ8_canEncode rfl rfl rfl rfl rfl rfl (jstp_static (sa := [vI x1]) (st := []) rfl rfl sJ8_canEncode okJ8_canEncode rfl rfl) w (fun v_11 h_9 _ _ w => ?_)
    refine jw_if_eq (tgt := 45) (pc' := 24) rfl rfl (fun c_12 => ?_) (fun c_12 => ?_)
    · replace w := w.1 c_12
      exact w_J12_append_45 w
    · replace w := w.2 c_12
      refine jw_aload_n (pc' := 25) rfl rfl ?_
      refine jw_getR (pc' := 28) (F := 71) (t' := 65) rfl rfl rfl rfl rfl g_1 ?_
      refine jw_aload_n (pc' := 29) rfl rfl ?_
      refine jw_dup (pc' := 30) rfl rfl ?_
      refine jw_getI (pc' := 33) (F := 74) rfl rfl rfl rfl g_1 ?_
      refine jw_dup_x1 (pc' := 34) rfl rfl rfl ?_
      refine jw_iconst (pc' := 35) (x := (1 : Int32)) rfl rfl ?_
      refine jw_iadd (pc' := 36) rfl ?_
      refine jw_putI' (pc' := 39) (F := 74) rfl rfl rfl (Or.inr rfl) (Or.inl rfl) rfl (rfl) (rfl) rfl g_1 (fun h_13 e_14 => ?_)
      replace w := w h_13 e_14
      refine jw_iload_n (pc' := 40) rfl rfl ?_
      refine jw_i2b (pc' := 41) rfl ?_
      obtain ⟨g_15, w⟩ := w
      obtain ⟨g_16, w⟩ := w
      refine jw_bast' (pc' := 42) rfl rfl rfl rfl rfl g_15 g_16 (fun h_17 e_18 => ?_)
      replace w := w h_17 e_18
      refine jw_goto (pc' := 75) rfl rfl ?_
      refine jw_gen (ls' := [some (vR 62 r0), none]) (st' := []) (And.intro (Or.inl rfl) (trivial)) (trivial) ?_
      exact w_J12_append_75 w
def T_J12_append (D : JD) (d : Nat) (Q : JO → JH → Prop) (r0 : Nat) (x1 : Int32) (h : JH) : Prop := W_J12_append_0 D d Q r0 x1 h
theorem t_J12_append {D : JD} {d : Nat} {Q : JO → JH → Prop} {r0 : Nat} {x1 : Int32} {h : JH} (w : T_J12_append D d Q r0 x1 h) : cJ12_append D (d + 1) r0 x1 h Q := by
  unfold T_J12_append at w
  unfold cJ12_append
  exact w_J12_append_0 w
def W_J12_ensureCapacityInternal_38 (D : JD) (d : Nat) (Q : JO → JH → Prop) (h : JH) : Prop :=
  Q (.inl none) h
theorem w_J12_ensureCapacityInternal_38 {D : JD} {d : Nat} {Q : JO → JH → Prop} {h : JH} (w : W_J12_ensureCapacityInternal_38 D d Q h) : JW D (d + 1) mJ12_ensureCapacityInternal 38 [none, none, none] [] h Q := by
  unfold W_J12_ensureCapacityInternal_38 at w
  exact jw_return rfl rfl w
def W_J12_ensureCapacityInternal_0 (D : JD) (d : Nat) (Q : JO → JH → Prop) (r0 : Nat) (x1 : Int32) (h : JH) : Prop :=
  r0 ≠ 0 ∧ ((jfr h 71 r0) ≠ 0 ∧ (((x1 - ((nI (jln h (jfr h 71 r0))) >>> ((jfi h 72 r0) &&& 31))) ≤ 0 → W_J12_ensureCapacityInternal_38 D d Q h) ∧ (¬ (x1 - ((nI (jln h (jfr h 71 r0))) >>> ((jfi h 72 r0) &&& 31))) ≤ 0 → cJ12_newCapacity D d r0 x1 h (pI D h (fun v_6 h_4 => cJ16_copyOf D d (jfr h 71 r0) (v_6 <<< ((jfi h_4 72 r0) &&& 31)) h_4 (pR D h_4 67 (fun v_9 h_7 => (v_9 = 0 ∨ sbt (jkd h_7 v_9) 65 = true) ∧ ∀ h_11 : JH, h_11 = wfr h_7 71 r0 v_9 → (W_J12_ensureCapacityInternal_38 D d Q h_11)) (jth Q))) (jth Q)))))
theorem w_J12_ensureCapacityInternal_0 {D : JD} {d : Nat} {Q : JO → JH → Prop} {r0 : Nat} {x1 : Int32} {h : JH} (w : W_J12_ensureCapacityInternal_0 D d Q r0 x1 h) : JW D (d + 1) mJ12_ensureCapacityInternal 0 [some (vR 62 r0), some (vI x1), none] [] h Q := by
  unfold W_J12_ensureCapacityInternal_0 at w
  refine jw_aload_n (pc' := 1) rfl rfl ?_
  obtain ⟨g_1, w⟩ := w
  refine jw_getR (pc' := 4) (F := 71) (t' := 65) rfl rfl rfl rfl rfl g_1 ?_
  obtain ⟨g_2, w⟩ := w
  refine jw_alen (pc' := 5) rfl rfl g_2 ?_
  refine jw_aload_n (pc' := 6) rfl rfl ?_
  refine jw_getI (pc' := 9) (F := 72) rfl rfl rfl rfl g_1 ?_
  refine jw_ishr (pc' := 10) rfl ?_
  refine jw_istore_n (pc' := 11) (ls' := [some (vR 62 r0), some (vI x1), some (vI ((nI (jln h (jfr h 71 r0))) >>> ((jfi h 72 r0) &&& 31)))]) rfl (by decide) rfl ?_
  refine jw_iload_n (pc' := 12) rfl rfl ?_
  refine jw_iload_n (pc' := 13) rfl rfl ?_
  refine jw_isub (pc' := 14) rfl ?_
  refine jw_if_le (tgt := 38) (pc' := 17) rfl rfl (fun c_3 => ?_) (fun c_3 => ?_)
  · replace w := w.1 c_3
    refine jw_gen (ls' := [none, none, none]) (st' := []) (trivial) (trivial) ?_
    exact w_J12_ensureCapacityInternal_38 w
  · replace w := w.2 c_3
    refine jw_aload_n (pc' := 18) rfl rfl ?_
    refine jw_aload_n (pc' := 19) rfl rfl ?_
    refine jw_getR (pc' := 22) (F := 71) (t' := 65) rfl rfl rfl rfl rfl g_1 ?_
    refine jw_aload_n (pc' := 23) rfl rfl ?_
    refine jw_iload_n (pc' := 24) rfl rfl ?_
    refine jw_cI (st := [vR 65 (jfr h 71 r0), vR 62 r0]) (sa := [vR 62 r0, vI x1]) okJ12_newCapacity rfl rfl rfl rfl rfl rfl (jstp_priv (sa := [vI x1]) (st := [vR 65 (jfr h 71 r0), vR 62 r0]) rfl rfl jpmJ12_newCapacity (jtb_mem (c := 3) (i := 173) rfl) okJ12_newCapacity g_1 rfl rfl) w (fun v_6 h_4 _ _ w => ?_)
    refine jw_aload_n (pc' := 28) rfl rfl ?_
    refine jw_getI (pc' := 31) (F := 72) rfl rfl rfl rfl g_1 ?_
    refine jw_ishl (pc' := 32) rfl ?_
    refine jw_cR (st := [vR 62 r0]) (sa := [vR 65 (jfr h 71 r0), vI (v_6 <<< ((jfi h_4 72 r0) &&& 31))]) okJ16_copyOf rfl rfl rfl rfl rfl rfl (jstp_static (sa := [vR 65 (jfr h 71 r0), vI (v_6 <<< ((jfi h_4 72 r0) &&& 31))]) (st := [vR 62 r0]) rfl rfl sJ16_copyOf okJ16_copyOf rfl rfl) w (fun v_9 h_7 _ _ _ w => ?_)
    obtain ⟨g_10, w⟩ := w
    refine jw_gen (ls' := _) (st' := [vR 65 v_9, vR 62 r0]) (jgl_rf _ _) (And.intro (Or.inr ⟨_, _, _, rfl, rfl, Or.elim g_10 (fun z => Or.inl z) (fun z => Or.inr (Or.inr z))⟩) (And.intro (Or.inl rfl) (trivial))) ?_
    refine jw_putR' (pc' := 38) (F := 71) rfl rfl rfl (Or.inr rfl) (Or.inl rfl) rfl rfl rfl g_1 (fun h_11 e_12 => ?_)
    replace w := w h_11 e_12
    refine jw_gen (ls' := [none, none, none]) (st' := []) (trivial) (trivial) ?_
    exact w_J12_ensureCapacityInternal_38 w
def T_J12_ensureCapacityInternal (D : JD) (d : Nat) (Q : JO → JH → Prop) (r0 : Nat) (x1 : Int32) (h : JH) : Prop := W_J12_ensureCapacityInternal_0 D d Q r0 x1 h
theorem t_J12_ensureCapacityInternal {D : JD} {d : Nat} {Q : JO → JH → Prop} {r0 : Nat} {x1 : Int32} {h : JH} (w : T_J12_ensureCapacityInternal D d Q r0 x1 h) : cJ12_ensureCapacityInternal D (d + 1) r0 x1 h Q := by
  unfold T_J12_ensureCapacityInternal at w
  unfold cJ12_ensureCapacityInternal
  exact w_J12_ensureCapacityInternal_0 w
def W_J12_newCapacity_0 (D : JD) (d : Nat) (Q : JO → JH → Prop) (r0 : Nat) (x1 : Int32) (h : JH) : Prop :=
  r0 ≠ 0 ∧ ((jfr h 71 r0) ≠ 0 ∧ (cJ14_newLength D d (nI (jln h (jfr h 71 r0))) ((x1 <<< ((jfi h 72 r0) &&& 31)) - (nI (jln h (jfr h 71 r0)))) ((nI (jln h (jfr h 71 r0))) + ((2 : Int32) <<< ((jfi h 72 r0) &&& 31))) h (pI D h (fun v_5 h_3 => (¬ v_5 = (2147483647 : Int32) → Q (.inl (some (vI (v_5 >>> ((jfi h_3 72 r0) &&& 31))))) h_3) ∧ (v_5 = (2147483647 : Int32) → False)) (jth Q))))
theorem w_J12_newCapacity_0 {D : JD} {d : Nat} {Q : JO → JH → Prop} {r0 : Nat} {x1 : Int32} {h : JH} (w : W_J12_newCapacity_0 D d Q r0 x1 h) : JW D (d + 1) mJ12_newCapacity 0 [some (vR 62 r0), some (vI x1), none, none, none, none] [] h Q := by
  unfold W_J12_newCapacity_0 at w
  refine jw_aload_n (pc' := 1) rfl rfl ?_
  obtain ⟨g_1, w⟩ := w
  refine jw_getR (pc' := 4) (F := 71) (t' := 65) rfl rfl rfl rfl rfl g_1 ?_
  obtain ⟨g_2, w⟩ := w
  refine jw_alen (pc' := 5) rfl rfl g_2 ?_
  refine jw_istore_n (pc' := 6) (ls' := [some (vR 62 r0), some (vI x1), some (vI (nI (jln h (jfr h 71 r0)))), none, none, none]) rfl (by decide) rfl ?_
  refine jw_iload_n (pc' := 7) rfl rfl ?_
  refine jw_aload_n (pc' := 8) rfl rfl ?_
  refine jw_getI (pc' := 11) (F := 72) rfl rfl rfl rfl g_1 ?_
  refine jw_ishl (pc' := 12) rfl ?_
  refine jw_istore_n (pc' := 13) (ls' := [some (vR 62 r0), some (vI x1), some (vI (nI (jln h (jfr h 71 r0)))), some (vI (x1 <<< ((jfi h 72 r0) &&& 31))), none, none]) rfl (by decide) rfl ?_
  refine jw_iload_n (pc' := 14) rfl rfl ?_
  refine jw_iload_n (pc' := 15) rfl rfl ?_
  refine jw_isub (pc' := 16) rfl ?_
  refine jw_istore (pc' := 18) (ls' := [some (vR 62 r0), some (vI x1), some (vI (nI (jln h (jfr h 71 r0)))), some (vI (x1 <<< ((jfi h 72 r0) &&& 31))), some (vI ((x1 <<< ((jfi h 72 r0) &&& 31)) - (nI (jln h (jfr h 71 r0))))), none]) rfl (by decide) rfl ?_
  refine jw_iload_n (pc' := 19) rfl rfl ?_
  refine jw_iload (pc' := 21) rfl rfl ?_
  refine jw_iload_n (pc' := 22) rfl rfl ?_
  refine jw_iconst (pc' := 23) (x := (2 : Int32)) rfl rfl ?_
  refine jw_aload_n (pc' := 24) rfl rfl ?_
  refine jw_getI (pc' := 27) (F := 72) rfl rfl rfl rfl g_1 ?_
  refine jw_ishl (pc' := 28) rfl ?_
  refine jw_iadd (pc' := 29) rfl ?_
  refine jw_cI (st := []) (sa := [vI (nI (jln h (jfr h 71 r0))), vI ((x1 <<< ((jfi h 72 r0) &&& 31)) - (nI (jln h (jfr h 71 r0)))), vI ((nI (jln h (jfr h 71 r0))) + ((2 : Int32) <<< ((jfi h 72 r0) &&& 31)))]) okJ14_newLength rfl rfl rfl rfl rfl rfl (jstp_static (sa := [vI (nI (jln h (jfr h 71 r0))), vI ((x1 <<< ((jfi h 72 r0) &&& 31)) - (nI (jln h (jfr h 71 r0)))), vI ((nI (jln h (jfr h 71 r0))) + ((2 : Int32) <<< ((jfi h 72 r0) &&& 31)))]) (st := []) rfl rfl sJ14_newLength okJ14_newLength rfl rfl) w (fun v_5 h_3 _ _ w => ?_)
  refine jw_istore (pc' := 34) (ls' := [some (vR 62 r0), some (vI x1), some (vI (nI (jln h (jfr h 71 r0)))), some (vI (x1 <<< ((jfi h 72 r0) &&& 31))), some (vI ((x1 <<< ((jfi h 72 r0) &&& 31)) - (nI (jln h (jfr h 71 r0))))), some (vI v_5)]) rfl (by decide) rfl ?_
  refine jw_iload (pc' := 36) rfl rfl ?_
  refine jw_ldcI (pc' := 38) (v := (2147483647 : Int32)) rfl rfl (by decide +kernel) ?_
  refine jw_icmp_ne (tgt := 51) (pc' := 41) rfl rfl (fun c_6 => ?_) (fun c_6 => ?_)
  · replace w := w.1 c_6
    refine jw_iload (pc' := 53) rfl rfl ?_
    refine jw_aload_n (pc' := 54) rfl rfl ?_
    refine jw_getI (pc' := 57) (F := 72) rfl rfl rfl rfl g_1 ?_
    refine jw_ishr (pc' := 58) rfl ?_
    exact jw_ireturn rfl rfl (rfl) w
  · replace w := w.2 c_6
    exact w.elim
def T_J12_newCapacity (D : JD) (d : Nat) (Q : JO → JH → Prop) (r0 : Nat) (x1 : Int32) (h : JH) : Prop := W_J12_newCapacity_0 D d Q r0 x1 h
theorem t_J12_newCapacity {D : JD} {d : Nat} {Q : JO → JH → Prop} {r0 : Nat} {x1 : Int32} {h : JH} (w : T_J12_newCapacity D d Q r0 x1 h) : cJ12_newCapacity D (d + 1) r0 x1 h Q := by
  unfold T_J12_newCapacity at w
  unfold cJ12_newCapacity
  exact w_J12_newCapacity_0 w
def W_J12_isLatin1_18 (D : JD) (d : Nat) (Q : JO → JH → Prop) (s0 : Int32) (h : JH) : Prop :=
  jbo s0 ∧ (Q (.inl (some (vI s0))) h)
theorem w_J12_isLatin1_18 {D : JD} {d : Nat} {Q : JO → JH → Prop} {s0 : Int32} {h : JH} (w : W_J12_isLatin1_18 D d Q s0 h) : JW D (d + 1) mJ12_isLatin1 18 [none] [vI s0] h Q := by
  unfold W_J12_isLatin1_18 at w
  obtain ⟨g_1, w⟩ := w
  exact jw_ireturn rfl rfl (g_1.nr) w
def W_J12_isLatin1_17 (D : JD) (d : Nat) (Q : JO → JH → Prop) (h : JH) : Prop :=
  W_J12_isLatin1_18 D d Q (0 : Int32) h
theorem w_J12_isLatin1_17 {D : JD} {d : Nat} {Q : JO → JH → Prop} {h : JH} (w : W_J12_isLatin1_17 D d Q h) : JW D (d + 1) mJ12_isLatin1 17 [none] [] h Q := by
  unfold W_J12_isLatin1_17 at w
  refine jw_iconst (pc' := 18) (x := (0 : Int32)) rfl rfl ?_
  exact w_J12_isLatin1_18 w
def W_J12_isLatin1_0 (D : JD) (d : Nat) (Q : JO → JH → Prop) (r0 : Nat) (h : JH) : Prop :=
  r0 ≠ 0 ∧ ((¬ (jfi h 72 r0) = 0 → W_J12_isLatin1_17 D d Q h) ∧ ((jfi h 72 r0) = 0 → W_J12_isLatin1_18 D d Q (1 : Int32) h))
theorem w_J12_isLatin1_0 {D : JD} {d : Nat} {Q : JO → JH → Prop} {r0 : Nat} {h : JH} (w : W_J12_isLatin1_0 D d Q r0 h) : JW D (d + 1) mJ12_isLatin1 0 [some (vR 62 r0)] [] h Q := by
  unfold W_J12_isLatin1_0 at w
  refine jw_getsI (pc' := 3) (v := (1 : Int32)) rfl rfl (by decide +kernel) ?_
  refine jw_if_eq (tgt := 17) (pc' := 6) rfl rfl (fun c_1 => absurd c_1 (by decide)) (fun _ => ?_)
  refine jw_aload_n (pc' := 7) rfl rfl ?_
  obtain ⟨g_2, w⟩ := w
  refine jw_getI (pc' := 10) (F := 72) rfl rfl rfl rfl g_2 ?_
  refine jw_if_ne (tgt := 17) (pc' := 13) rfl rfl (fun c_3 => ?_) (fun c_3 => ?_)
  · replace w := w.1 c_3
    refine jw_gen (ls' := [none]) (st' := []) (trivial) (trivial) ?_
    exact w_J12_isLatin1_17 w
  · replace w := w.2 c_3
    refine jw_iconst (pc' := 14) (x := (1 : Int32)) rfl rfl ?_
    refine jw_goto (pc' := 18) rfl rfl ?_
    refine jw_gen (ls' := [none]) (st' := [vI (1 : Int32)]) (trivial) (And.intro (Or.inl rfl) (trivial)) ?_
    exact w_J12_isLatin1_18 w
def T_J12_isLatin1 (D : JD) (d : Nat) (Q : JO → JH → Prop) (r0 : Nat) (h : JH) : Prop := W_J12_isLatin1_0 D d Q r0 h
theorem t_J12_isLatin1 {D : JD} {d : Nat} {Q : JO → JH → Prop} {r0 : Nat} {h : JH} (w : T_J12_isLatin1 D d Q r0 h) : cJ12_isLatin1 D (d + 1) r0 h Q := by
  unfold T_J12_isLatin1 at w
  unfold cJ12_isLatin1
  exact w_J12_isLatin1_0 w
def W_J12_inflate_0 (D : JD) (d : Nat) (Q : JO → JH → Prop) (r0 : Nat) (h : JH) : Prop :=
  r0 ≠ 0 ∧ (cJ12_isLatin1 D d r0 h (pI D h (fun v_4 h_2 => (¬ v_4 = 0 → (jfr h_2 71 r0) ≠ 0 ∧ (cJ10_newBytesFor D d (nI (jln h_2 (jfr h_2 71 r0))) h_2 (pR D h_2 67 (fun v_9 h_7 => cJ8_inflate D d (jfr h_7 71 r0) (0 : Int32) v_9 (0 : Int32) (jfi h_7 74 r0) h_7 (pV D h_7 (fun h_10 => (v_9 = 0 ∨ sbt (jkd h_10 v_9) 65 = true) ∧ ∀ h_14 : JH, h_14 = wfr h_10 71 r0 v_9 → (∀ h_16 : JH, h_16 = wfi h_14 72 r0 (1 : Int32) → (Q (.inl none) h_16))) (jth Q))) (jth Q)))) ∧ (v_4 = 0 → Q (.inl none) h_2)) (jth Q)))
theorem w_J12_inflate_0 {D : JD} {d : Nat} {Q : JO → JH → Prop} {r0 : Nat} {h : JH} (w : W_J12_inflate_0 D d Q r0 h) : JW D (d + 1) mJ12_inflate 0 [some (vR 62 r0), none] [] h Q := by
  unfold W_J12_inflate_0 at w
  refine jw_aload_n (pc' := 1) rfl rfl ?_
  obtain ⟨g_1, w⟩ := w
  refine jw_cI (st := []) (sa := [vR 62 r0]) okJ12_isLatin1 rfl rfl rfl rfl rfl rfl (jstp_up (sa := []) (st := []) rfl (lw_g (jtb_mem (c := 3) (i := 201) rfl) rfl) um0 okJ12_isLatin1 g_1 (one62.k g_1) rfl rfl) w (fun v_4 h_2 _ _ w => ?_)
  refine jw_if_ne (tgt := 8) (pc' := 7) rfl rfl (fun c_5 => ?_) (fun c_5 => ?_)
  · replace w := w.1 c_5
    refine jw_aload_n (pc' := 9) rfl rfl ?_
    refine jw_getR (pc' := 12) (F := 71) (t' := 65) rfl rfl rfl rfl rfl g_1 ?_
    obtain ⟨g_6, w⟩ := w
    refine jw_alen (pc' := 13) rfl rfl g_6 ?_
    refine jw_cR (st := []) (sa := [vI (nI (jln h_2 (jfr h_2 71 r0)))]) okJ10_newBytesFor rfl rfl rfl rfl rfl rfl (jstp_static (sa := [vI (nI (jln h_2 (jfr h_2 71 r0)))]) (st := []) rfl rfl sJ10_newBytesFor okJ10_newBytesFor rfl rfl) w (fun v_9 h_7 _ _ _ w => ?_)
    refine jw_astore_n (pc' := 17) (ls' := [some (vR 62 r0), some (vR 67 v_9)]) rfl (by decide) rfl ?_
    refine jw_aload_n (pc' := 18) rfl rfl ?_
    refine jw_getR (pc' := 21) (F := 71) (t' := 65) rfl rfl rfl rfl rfl g_1 ?_
    refine jw_iconst (pc' := 22) (x := (0 : Int32)) rfl rfl ?_
    refine jw_aload_n (pc' := 23) rfl rfl ?_
    refine jw_iconst (pc' := 24) (x := (0 : Int32)) rfl rfl ?_
    refine jw_aload_n (pc' := 25) rfl rfl ?_
    refine jw_getI (pc' := 28) (F := 74) rfl rfl rfl rfl g_1 ?_
    refine jw_cV (st := []) (sa := [vR 65 (jfr h_7 71 r0), vI (0 : Int32), vR 67 v_9, vI (0 : Int32), vI (jfi h_7 74 r0)]) okJ8_inflate rfl rfl rfl rfl rfl rfl (jstp_static (sa := [vR 65 (jfr h_7 71 r0), vI (0 : Int32), vR 67 v_9, vI (0 : Int32), vI (jfi h_7 74 r0)]) (st := []) rfl rfl sJ8_inflate okJ8_inflate rfl rfl) w (fun h_10 _ _ w => ?_)
    refine jw_aload_n (pc' := 32) rfl rfl ?_
    refine jw_aload_n (pc' := 33) rfl rfl ?_
    obtain ⟨g_13, w⟩ := w
    refine jw_gen (ls' := _) (st' := [vR 65 v_9, vR 62 r0]) (jgl_rf _ _) (And.intro (Or.inr ⟨_, _, _, rfl, rfl, Or.elim g_13 (fun z => Or.inl z) (fun z => Or.inr (Or.inr z))⟩) (And.intro (Or.inl rfl) (trivial))) ?_
    refine jw_putR' (pc' := 36) (F := 71) rfl rfl rfl (Or.inr rfl) (Or.inl rfl) rfl rfl rfl g_1 (fun h_14 e_15 => ?_)
    replace w := w h_14 e_15
    refine jw_aload_n (pc' := 37) rfl rfl ?_
    refine jw_iconst (pc' := 38) (x := (1 : Int32)) rfl rfl ?_
    refine jw_putI' (pc' := 41) (F := 72) rfl rfl rfl (Or.inr rfl) (Or.inl rfl) rfl (rfl) (rfl) rfl g_1 (fun h_16 e_17 => ?_)
    replace w := w h_16 e_17
    exact jw_return rfl rfl w
  · replace w := w.2 c_5
    exact jw_return rfl rfl w
def T_J12_inflate (D : JD) (d : Nat) (Q : JO → JH → Prop) (r0 : Nat) (h : JH) : Prop := W_J12_inflate_0 D d Q r0 h
theorem t_J12_inflate {D : JD} {d : Nat} {Q : JO → JH → Prop} {r0 : Nat} {h : JH} (w : T_J12_inflate D d Q r0 h) : cJ12_inflate D (d + 1) r0 h Q := by
  unfold T_J12_inflate at w
  unfold cJ12_inflate
  exact w_J12_inflate_0 w
def W_J12_getValue_0 (D : JD) (d : Nat) (Q : JO → JH → Prop) (r0 : Nat) (h : JH) : Prop :=
  r0 ≠ 0 ∧ (Q (.inl (some (vR 67 (jfr h 71 r0)))) h)
theorem w_J12_getValue_0 {D : JD} {d : Nat} {Q : JO → JH → Prop} {r0 : Nat} {h : JH} (w : W_J12_getValue_0 D d Q r0 h) : JW D (d + 1) mJ12_getValue 0 [some (vR 62 r0)] [] h Q := by
  unfold W_J12_getValue_0 at w
  refine jw_aload_n (pc' := 1) rfl rfl ?_
  obtain ⟨g_1, w⟩ := w
  refine jw_getR (pc' := 4) (F := 71) (t' := 65) rfl rfl rfl rfl rfl g_1 ?_
  exact jw_areturn rfl rfl rfl rfl rfl w
def T_J12_getValue (D : JD) (d : Nat) (Q : JO → JH → Prop) (r0 : Nat) (h : JH) : Prop := W_J12_getValue_0 D d Q r0 h
theorem t_J12_getValue {D : JD} {d : Nat} {Q : JO → JH → Prop} {r0 : Nat} {h : JH} (w : T_J12_getValue D d Q r0 h) : cJ12_getValue D (d + 1) r0 h Q := by
  unfold T_J12_getValue at w
  unfold cJ12_getValue
  exact w_J12_getValue_0 w
def W_J12_length_0 (D : JD) (d : Nat) (Q : JO → JH → Prop) (r0 : Nat) (h : JH) : Prop :=
  r0 ≠ 0 ∧ (Q (.inl (some (vI (jfi h 74 r0)))) h)
theorem w_J12_length_0 {D : JD} {d : Nat} {Q : JO → JH → Prop} {r0 : Nat} {h : JH} (w : W_J12_length_0 D d Q r0 h) : JW D (d + 1) mJ12_length 0 [some (vR 62 r0)] [] h Q := by
  unfold W_J12_length_0 at w
  refine jw_aload_n (pc' := 1) rfl rfl ?_
  obtain ⟨g_1, w⟩ := w
  refine jw_getI (pc' := 4) (F := 74) rfl rfl rfl rfl g_1 ?_
  exact jw_ireturn rfl rfl (rfl) w
def T_J12_length (D : JD) (d : Nat) (Q : JO → JH → Prop) (r0 : Nat) (h : JH) : Prop := W_J12_length_0 D d Q r0 h
theorem t_J12_length {D : JD} {d : Nat} {Q : JO → JH → Prop} {r0 : Nat} {h : JH} (w : T_J12_length D d Q r0 h) : cJ12_length D (d + 1) r0 h Q := by
  unfold T_J12_length at w
  unfold cJ12_length
  exact w_J12_length_0 w
def W_J12_append_2_48 (D : JD) (d : Nat) (Q : JO → JH → Prop) (r0 : Nat) (x3 : Int32) (h : JH) : Prop :=
  r0 ≠ 0 ∧ ∀ h_2 : JH, h_2 = wfi h 74 r0 x3 → (Q (.inl (some (vR 62 r0))) h_2)
theorem w_J12_append_2_48 {D : JD} {d : Nat} {Q : JO → JH → Prop} {r0 : Nat} {x3 : Int32} {h : JH} (w : W_J12_append_2_48 D d Q r0 x3 h) : JW D (d + 1) mJ12_append_2 48 [some (vR 62 r0), none, none, some (vI x3)] [] h Q := by
  unfold W_J12_append_2_48 at w
  refine jw_aload_n (pc' := 49) rfl rfl ?_
  refine jw_iload_n (pc' := 50) rfl rfl ?_
  obtain ⟨g_1, w⟩ := w
  refine jw_putI' (pc' := 53) (F := 74) rfl rfl rfl (Or.inr rfl) (Or.inl rfl) rfl (rfl) (rfl) rfl g_1 (fun h_2 e_3 => ?_)
  replace w := w h_2 e_3
  refine jw_aload_n (pc' := 54) rfl rfl ?_
  exact jw_areturn rfl rfl rfl rfl rfl w
def W_J12_append_2_0 (D : JD) (d : Nat) (Q : JO → JH → Prop) (r0 : Nat) (x1 : Int32) (h : JH) : Prop :=
  r0 ≠ 0 ∧ (cJ17_stringSize D d x1 h (pI D h (fun v_4 h_2 => cJ12_ensureCapacityInternal D d r0 ((jfi h 74 r0) + v_4) h_2 (pV D h_2 (fun h_5 => cJ12_isLatin1 D d r0 h_5 (pI D h_5 (fun v_10 h_8 => (v_10 = 0 → cJ10_getChars D d x1 (jfi h 74 r0) ((jfi h 74 r0) + v_4) (jfr h_8 71 r0) h_8 (pI D h_8 (fun v_14 h_12 => W_J12_append_2_48 D d Q r0 ((jfi h 74 r0) + v_4) h_12) (jth Q))) ∧ (¬ v_10 = 0 → cJ17_getChars D d x1 ((jfi h 74 r0) + v_4) (jfr h_8 71 r0) h_8 (pI D h_8 (fun v_17 h_15 => W_J12_append_2_48 D d Q r0 ((jfi h 74 r0) + v_4) h_15) (jth Q)))) (jth Q))) (jth Q))) (jth Q)))
theorem w_J12_append_2_0 {D : JD} {d : Nat} {Q : JO → JH → Prop} {r0 : Nat} {x1 : Int32} {h : JH} (w : W_J12_append_2_0 D d Q r0 x1 h) : JW D (d + 1) mJ12_append_2 0 [some (vR 62 r0), some (vI x1), none, none] [] h Q := by
  unfold W_J12_append_2_0 at w
  refine jw_aload_n (pc' := 1) rfl rfl ?_
  obtain ⟨g_1, w⟩ := w
  refine jw_getI (pc' := 4) (F := 74) rfl rfl rfl rfl g_1 ?_
  refine jw_istore_n (pc' := 5) (ls' := [some (vR 62 r0), some (vI x1), some (vI (jfi h 74 r0)), none]) rfl (by decide) rfl ?_
  refine jw_iload_n (pc' := 6) rfl rfl ?_
  refine jw_iload_n (pc' := 7) rfl rfl ?_
  refine jw_cI (st := [vI (jfi h 74 r0)]) (sa := [vI x1]) okJ17_stringSize rfl rfl rfl rfl rfl rfl (jstp_static (sa := [vI x1]) (st := [vI (jfi h 74 r0)]) rfl rfl sJ17_stringSize okJ17_stringSize rfl rfl) w (fun v_4 h_2 _ _ w => ?_)
  refine jw_iadd (pc' := 11) rfl ?_
  refine jw_istore_n (pc' := 12) (ls' := [some (vR 62 r0), some (vI x1), some (vI (jfi h 74 r0)), some (vI ((jfi h 74 r0) + v_4))]) rfl (by decide) rfl ?_
  refine jw_aload_n (pc' := 13) rfl rfl ?_
  refine jw_iload_n (pc' := 14) rfl rfl ?_
  refine jw_cV (st := []) (sa := [vR 62 r0, vI ((jfi h 74 r0) + v_4)]) okJ12_ensureCapacityInternal rfl rfl rfl rfl rfl rfl (jstp_priv (sa := [vI ((jfi h 74 r0) + v_4)]) (st := []) rfl rfl jpmJ12_ensureCapacityInternal (jtb_mem (c := 3) (i := 169) rfl) okJ12_ensureCapacityInternal g_1 rfl rfl) w (fun h_5 _ _ w => ?_)
  refine jw_aload_n (pc' := 18) rfl rfl ?_
  refine jw_cI (st := []) (sa := [vR 62 r0]) okJ12_isLatin1 rfl rfl rfl rfl rfl rfl (jstp_up (sa := []) (st := []) rfl (lw_g (jtb_mem (c := 3) (i := 201) rfl) rfl) um0 okJ12_isLatin1 g_1 (one62.k g_1) rfl rfl) w (fun v_10 h_8 _ _ w => ?_)
  refine jw_if_eq (tgt := 37) (pc' := 24) rfl rfl (fun c_11 => ?_) (fun c_11 => ?_)
  · replace w := w.1 c_11
    refine jw_iload_n (pc' := 38) rfl rfl ?_
    refine jw_iload_n (pc' := 39) rfl rfl ?_
    refine jw_iload_n (pc' := 40) rfl rfl ?_
    refine jw_aload_n (pc' := 41) rfl rfl ?_
    refine jw_getR (pc' := 44) (F := 71) (t' := 65) rfl rfl rfl rfl rfl g_1 ?_
    refine jw_cI (st := []) (sa := [vI x1, vI (jfi h 74 r0), vI ((jfi h 74 r0) + v_4), vR 65 (jfr h_8 71 r0)]) okJ10_getChars rfl rfl rfl rfl rfl rfl (jstp_static (sa := [vI x1, vI (jfi h 74 r0), vI ((jfi h 74 r0) + v_4), vR 65 (jfr h_8 71 r0)]) (st := []) rfl rfl sJ10_getChars okJ10_getChars rfl rfl) w (fun v_14 h_12 _ _ w => ?_)
    refine jw_pop (pc' := 48) rfl rfl ?_
    refine jw_gen (ls' := [some (vR 62 r0), none, none, some (vI ((jfi h 74 r0) + v_4))]) (st' := []) (And.intro (Or.inl rfl) (And.intro (Or.inl rfl) (trivial))) (trivial) ?_
    exact w_J12_append_2_48 w
  · replace w := w.2 c_11
    refine jw_iload_n (pc' := 25) rfl rfl ?_
    refine jw_iload_n (pc' := 26) rfl rfl ?_
    refine jw_aload_n (pc' := 27) rfl rfl ?_
    refine jw_getR (pc' := 30) (F := 71) (t' := 65) rfl rfl rfl rfl rfl g_1 ?_
    refine jw_cI (st := []) (sa := [vI x1, vI ((jfi h 74 r0) + v_4), vR 65 (jfr h_8 71 r0)]) okJ17_getChars rfl rfl rfl rfl rfl rfl (jstp_static (sa := [vI x1, vI ((jfi h 74 r0) + v_4), vR 65 (jfr h_8 71 r0)]) (st := []) rfl rfl sJ17_getChars okJ17_getChars rfl rfl) w (fun v_17 h_15 _ _ w => ?_)
    refine jw_pop (pc' := 34) rfl rfl ?_
    refine jw_goto (pc' := 48) rfl rfl ?_
    refine jw_gen (ls' := [some (vR 62 r0), none, none, some (vI ((jfi h 74 r0) + v_4))]) (st' := []) (And.intro (Or.inl rfl) (And.intro (Or.inl rfl) (trivial))) (trivial) ?_
    exact w_J12_append_2_48 w
def T_J12_append_2 (D : JD) (d : Nat) (Q : JO → JH → Prop) (r0 : Nat) (x1 : Int32) (h : JH) : Prop := W_J12_append_2_0 D d Q r0 x1 h
theorem t_J12_append_2 {D : JD} {d : Nat} {Q : JO → JH → Prop} {r0 : Nat} {x1 : Int32} {h : JH} (w : T_J12_append_2 D d Q r0 x1 h) : cJ12_append_2 D (d + 1) r0 x1 h Q := by
  unfold T_J12_append_2 at w
  unfold cJ12_append_2
  exact w_J12_append_2_0 w
def W_J12_append_3_0 (D : JD) (d : Nat) (Q : JO → JH → Prop) (r0 : Nat) (r1 : Nat) (h : JH) : Prop :=
  (r1 ≠ 0 → cJ5_length D d r1 h (pI D h (fun v_4 h_2 => r0 ≠ 0 ∧ (cJ12_ensureCapacityInternal D d r0 ((jfi h_2 74 r0) + v_4) h_2 (pV D h_2 (fun h_6 => cJ12_putStringAt D d r0 (jfi h_6 74 r0) r1 h_6 (pV D h_6 (fun h_9 => ∀ h_12 : JH, h_12 = wfi h_9 74 r0 ((jfi h_9 74 r0) + v_4) → (Q (.inl (some (vR 62 r0))) h_12)) (jth Q))) (jth Q)))) (jth Q))) ∧ (r1 = 0 → r0 ≠ 0 ∧ (cJ12_appendNull D d r0 h (pR D h 62 (fun v_17 h_15 => Q (.inl (some (vR 62 v_17))) h_15) (jth Q))))
theorem w_J12_append_3_0 {D : JD} {d : Nat} {Q : JO → JH → Prop} {r0 : Nat} {r1 : Nat} {h : JH} (w : W_J12_append_3_0 D d Q r0 r1 h) : JW D (d + 1) mJ12_append_3 0 [some (vR 62 r0), some (vR 64 r1), none] [] h Q := by
  unfold W_J12_append_3_0 at w
  refine jw_aload_n (pc' := 1) rfl rfl ?_
  refine jw_ifnonnull (tgt := 9) (pc' := 4) rfl rfl (fun c_1 => ?_) (fun c_1 => ?_)
  · replace w := w.1 c_1
    refine jw_aload_n (pc' := 10) rfl rfl ?_
    refine jw_cI (st := []) (sa := [vR 64 r1]) okJ5_length rfl rfl rfl rfl rfl rfl (jstp_virtual (sa := []) (st := []) (k := 0) rfl rfl sJ5_length okJ5_length c_1 (one64.k c_1) rfl rfl) w (fun v_4 h_2 _ _ w => ?_)
    refine jw_istore_n (pc' := 14) (ls' := [some (vR 62 r0), some (vR 64 r1), some (vI v_4)]) rfl (by decide) rfl ?_
    refine jw_aload_n (pc' := 15) rfl rfl ?_
    refine jw_aload_n (pc' := 16) rfl rfl ?_
    obtain ⟨g_5, w⟩ := w
    refine jw_getI (pc' := 19) (F := 74) rfl rfl rfl rfl g_5 ?_
    refine jw_iload_n (pc' := 20) rfl rfl ?_
    refine jw_iadd (pc' := 21) rfl ?_
    refine jw_cV (st := []) (sa := [vR 62 r0, vI ((jfi h_2 74 r0) + v_4)]) okJ12_ensureCapacityInternal rfl rfl rfl rfl rfl rfl (jstp_priv (sa := [vI ((jfi h_2 74 r0) + v_4)]) (st := []) rfl rfl jpmJ12_ensureCapacityInternal (jtb_mem (c := 3) (i := 169) rfl) okJ12_ensureCapacityInternal g_5 rfl rfl) w (fun h_6 _ _ w => ?_)
    refine jw_aload_n (pc' := 25) rfl rfl ?_
    refine jw_aload_n (pc' := 26) rfl rfl ?_
    refine jw_getI (pc' := 29) (F := 74) rfl rfl rfl rfl g_5 ?_
    refine jw_aload_n (pc' := 30) rfl rfl ?_
    refine jw_cV (st := []) (sa := [vR 62 r0, vI (jfi h_6 74 r0), vR 64 r1]) okJ12_putStringAt rfl rfl rfl rfl rfl rfl (jstp_priv (sa := [vI (jfi h_6 74 r0), vR 64 r1]) (st := []) rfl rfl jpmJ12_putStringAt (jtb_mem (c := 4) (i := 120) rfl) okJ12_putStringAt g_5 rfl rfl) w (fun h_9 _ _ w => ?_)
    refine jw_aload_n (pc' := 34) rfl rfl ?_
    refine jw_dup (pc' := 35) rfl rfl ?_
    refine jw_getI (pc' := 38) (F := 74) rfl rfl rfl rfl g_5 ?_
    refine jw_iload_n (pc' := 39) rfl rfl ?_
    refine jw_iadd (pc' := 40) rfl ?_
    refine jw_putI' (pc' := 43) (F := 74) rfl rfl rfl (Or.inr rfl) (Or.inl rfl) rfl (rfl) (rfl) rfl g_5 (fun h_12 e_13 => ?_)
    replace w := w h_12 e_13
    refine jw_aload_n (pc' := 44) rfl rfl ?_
    exact jw_areturn rfl rfl rfl rfl rfl w
  · replace w := w.2 c_1
    refine jw_aload_n (pc' := 5) rfl rfl ?_
    obtain ⟨g_14, w⟩ := w
    refine jw_cR (st := []) (sa := [vR 62 r0]) okJ12_appendNull rfl rfl rfl rfl rfl rfl (jstp_priv (sa := []) (st := []) rfl rfl jpmJ12_appendNull (jtb_mem (c := 4) (i := 104) rfl) okJ12_appendNull g_14 rfl rfl) w (fun v_17 h_15 _ _ _ w => ?_)
    exact jw_areturn rfl rfl rfl rfl rfl w
def T_J12_append_3 (D : JD) (d : Nat) (Q : JO → JH → Prop) (r0 : Nat) (r1 : Nat) (h : JH) : Prop := W_J12_append_3_0 D d Q r0 r1 h
theorem t_J12_append_3 {D : JD} {d : Nat} {Q : JO → JH → Prop} {r0 : Nat} {r1 : Nat} {h : JH} (w : T_J12_append_3 D d Q r0 r1 h) : cJ12_append_3 D (d + 1) r0 r1 h Q := by
  unfold T_J12_append_3 at w
  unfold cJ12_append_3
  exact w_J12_append_3_0 w
def W_J12_appendNull_76 (D : JD) (d : Nat) (Q : JO → JH → Prop) (r0 : Nat) (x1 : Int32) (h : JH) : Prop :=
  r0 ≠ 0 ∧ ∀ h_2 : JH, h_2 = wfi h 74 r0 x1 → (Q (.inl (some (vR 62 r0))) h_2)
theorem w_J12_appendNull_76 {D : JD} {d : Nat} {Q : JO → JH → Prop} {r0 : Nat} {x1 : Int32} {h : JH} (w : W_J12_appendNull_76 D d Q r0 x1 h) : JW D (d + 1) mJ12_appendNull 76 [some (vR 62 r0), some (vI x1), none] [] h Q := by
  unfold W_J12_appendNull_76 at w
  refine jw_aload_n (pc' := 77) rfl rfl ?_
  refine jw_iload_n (pc' := 78) rfl rfl ?_
  obtain ⟨g_1, w⟩ := w
  refine jw_putI' (pc' := 81) (F := 74) rfl rfl rfl (Or.inr rfl) (Or.inl rfl) rfl (rfl) (rfl) rfl g_1 (fun h_2 e_3 => ?_)
  replace w := w h_2 e_3
  refine jw_aload_n (pc' := 82) rfl rfl ?_
  exact jw_areturn rfl rfl rfl rfl rfl w
def W_J12_appendNull_0 (D : JD) (d : Nat) (Q : JO → JH → Prop) (r0 : Nat) (h : JH) : Prop :=
  r0 ≠ 0 ∧ (cJ12_ensureCapacityInternal D d r0 ((jfi h 74 r0) + (4 : Int32)) h (pV D h (fun h_2 => cJ12_isLatin1 D d r0 h_2 (pI D h_2 (fun v_7 h_5 => (v_7 = 0 → cJ10_putCharsAt D d (jfr h_2 71 r0) (jfi h_2 74 r0) (110 : Int32) (117 : Int32) (108 : Int32) (108 : Int32) h_5 (pI D h_5 (fun v_11 h_9 => W_J12_appendNull_76 D d Q r0 v_11 h_9) (jth Q))) ∧ (¬ v_7 = 0 → (jfr h_2 71 r0) ≠ 0 ∧ jin (jfi h_2 74 r0) (jln h_5 (jfr h_2 71 r0)) ∧ ∀ h_14 : JH, h_14 = wai h_5 (jfr h_2 71 r0) (ixn (jfi h_2 74 r0)) ((Int32.toInt8 (110 : Int32)).toInt32) → (jin ((jfi h_2 74 r0) + (1 : Int32)) (jln h_14 (jfr h_2 71 r0)) ∧ ∀ h_17 : JH, h_17 = wai h_14 (jfr h_2 71 r0) (ixn ((jfi h_2 74 r0) + (1 : Int32))) ((Int32.toInt8 (117 : Int32)).toInt32) → (jin (((jfi h_2 74 r0) + (1 : Int32)) + (1 : Int32)) (jln h_17 (jfr h_2 71 r0)) ∧ ∀ h_20 : JH, h_20 = wai h_17 (jfr h_2 71 r0) (ixn (((jfi h_2 74 r0) + (1 : Int32)) + (1 : Int32))) ((Int32.toInt8 (108 : Int32)).toInt32) → (jin ((((jfi h_2 74 r0) + (1 : Int32)) + (1 : Int32)) + (1 : Int32)) (jln h_20 (jfr h_2 71 r0)) ∧ ∀ h_23 : JH, h_23 = wai h_20 (jfr h_2 71 r0) (ixn ((((jfi h_2 74 r0) + (1 : Int32)) + (1 : Int32)) + (1 : Int32))) ((Int32.toInt8 (108 : Int32)).toInt32) → (W_J12_appendNull_76 D d Q r0 (((((jfi h_2 74 r0) + (1 : Int32)) + (1 : Int32)) + (1 : Int32)) + (1 : Int32)) h_23)))))) (jth Q))) (jth Q)))
theorem w_J12_appendNull_0 {D : JD} {d : Nat} {Q : JO → JH → Prop} {r0 : Nat} {h : JH} (w : W_J12_appendNull_0 D d Q r0 h) : JW D (d + 1) mJ12_appendNull 0 [some (vR 62 r0), none, none] [] h Q := by
  unfold W_J12_appendNull_0 at w
  refine jw_aload_n (pc' := 1) rfl rfl ?_
  refine jw_aload_n (pc' := 2) rfl rfl ?_
  obtain ⟨g_1, w⟩ := w
  refine jw_getI (pc' := 5) (F := 74) rfl rfl rfl rfl g_1 ?_
  refine jw_iconst (pc' := 6) (x := (4 : Int32)) rfl rfl ?_
  refine jw_iadd (pc' := 7) rfl ?_
  refine jw_cV (st := []) (sa := [vR 62 r0, vI ((jfi h 74 r0) + (4 : Int32))]) okJ12_ensureCapacityInternal rfl rfl rfl rfl rfl rfl (jstp_priv (sa := [vI ((jfi h 74 r0) + (4 : Int32))]) (st := []) rfl rfl jpmJ12_ensureCapacityInternal (jtb_mem (c := 3) (i := 169) rfl) okJ12_ensureCapacityInternal g_1 rfl rfl) w (fun h_2 _ _ w => ?_)
  refine jw_aload_n (pc' := 11) rfl rfl ?_
  refine jw_getI (pc' := 14) (F := 74) rfl rfl rfl rfl g_1 ?_
  refine jw_istore_n (pc' := 15) (ls' := [some (vR 62 r0), some (vI (jfi h_2 74 r0)), none]) rfl (by decide) rfl ?_
  refine jw_aload_n (pc' := 16) rfl rfl ?_
  refine jw_getR (pc' := 19) (F := 71) (t' := 65) rfl rfl rfl rfl rfl g_1 ?_
  refine jw_astore_n (pc' := 20) (ls' := [some (vR 62 r0), some (vI (jfi h_2 74 r0)), some (vR 65 (jfr h_2 71 r0))]) rfl (by decide) rfl ?_
  refine jw_aload_n (pc' := 21) rfl rfl ?_
  refine jw_cI (st := []) (sa := [vR 62 r0]) okJ12_isLatin1 rfl rfl rfl rfl rfl rfl (jstp_up (sa := []) (st := []) rfl (lw_g (jtb_mem (c := 3) (i := 201) rfl) rfl) um0 okJ12_isLatin1 g_1 (one62.k g_1) rfl rfl) w (fun v_7 h_5 _ _ w => ?_)
  refine jw_if_eq (tgt := 62) (pc' := 27) rfl rfl (fun c_8 => ?_) (fun c_8 => ?_)
  · replace w := w.1 c_8
    refine jw_aload_n (pc' := 63) rfl rfl ?_
    refine jw_iload_n (pc' := 64) rfl rfl ?_
    refine jw_bipush (pc' := 66) (x := (110 : Int32)) rfl rfl ?_
    refine jw_bipush (pc' := 68) (x := (117 : Int32)) rfl rfl ?_
    refine jw_bipush (pc' := 70) (x := (108 : Int32)) rfl rfl ?_
    refine jw_bipush (pc' := 72) (x := (108 : Int32)) rfl rfl ?_
    refine jw_cI (st := []) (sa := [vR 65 (jfr h_2 71 r0), vI (jfi h_2 74 r0), vI (110 : Int32), vI (117 : Int32), vI (108 : Int32), vI (108 : Int32)]) okJ10_putCharsAt rfl rfl rfl rfl rfl rfl (jstp_static (sa := [vR 65 (jfr h_2 71 r0), vI (jfi h_2 74 r0), vI (110 : Int32), vI (117 : Int32), vI (108 : Int32), vI (108 : Int32)]) (st := []) rfl rfl sJ10_putCharsAt okJ10_putCharsAt rfl rfl) w (fun v_11 h_9 _ _ w => ?_)
    refine jw_istore_n (pc' := 76) (ls' := [some (vR 62 r0), some (vI v_11), some (vR 65 (jfr h_2 71 r0))]) rfl (by decide) rfl ?_
    refine jw_gen (ls' := [some (vR 62 r0), some (vI v_11), none]) (st' := []) (And.intro (Or.inl rfl) (And.intro (Or.inl rfl) (trivial))) (trivial) ?_
    exact w_J12_appendNull_76 w
  · replace w := w.2 c_8
    refine jw_aload_n (pc' := 28) rfl rfl ?_
    refine jw_iload_n (pc' := 29) rfl rfl ?_
    refine jw_iinc (pc' := 32) (y := (jfi h_2 74 r0) + (1 : Int32)) (ls' := [some (vR 62 r0), some (vI ((jfi h_2 74 r0) + (1 : Int32))), some (vR 65 (jfr h_2 71 r0))]) rfl (by decide) rfl rfl rfl ?_
    refine jw_bipush (pc' := 34) (x := (110 : Int32)) rfl rfl ?_
    obtain ⟨g_12, w⟩ := w
    obtain ⟨g_13, w⟩ := w
    refine jw_bast' (pc' := 35) rfl rfl rfl rfl rfl g_12 g_13 (fun h_14 e_15 => ?_)
    replace w := w h_14 e_15
    refine jw_aload_n (pc' := 36) rfl rfl ?_
    refine jw_iload_n (pc' := 37) rfl rfl ?_
    refine jw_iinc (pc' := 40) (y := ((jfi h_2 74 r0) + (1 : Int32)) + (1 : Int32)) (ls' := [some (vR 62 r0), some (vI (((jfi h_2 74 r0) + (1 : Int32)) + (1 : Int32))), some (vR 65 (jfr h_2 71 r0))]) rfl (by decide) rfl rfl rfl ?_
    refine jw_bipush (pc' := 42) (x := (117 : Int32)) rfl rfl ?_
    obtain ⟨g_16, w⟩ := w
    refine jw_bast' (pc' := 43) rfl rfl rfl rfl rfl g_12 g_16 (fun h_17 e_18 => ?_)
    replace w := w h_17 e_18
    refine jw_aload_n (pc' := 44) rfl rfl ?_
    refine jw_iload_n (pc' := 45) rfl rfl ?_
    refine jw_iinc (pc' := 48) (y := (((jfi h_2 74 r0) + (1 : Int32)) + (1 : Int32)) + (1 : Int32)) (ls' := [some (vR 62 r0), some (vI ((((jfi h_2 74 r0) + (1 : Int32)) + (1 : Int32)) + (1 : Int32))), some (vR 65 (jfr h_2 71 r0))]) rfl (by decide) rfl rfl rfl ?_
    refine jw_bipush (pc' := 50) (x := (108 : Int32)) rfl rfl ?_
    obtain ⟨g_19, w⟩ := w
    refine jw_bast' (pc' := 51) rfl rfl rfl rfl rfl g_12 g_19 (fun h_20 e_21 => ?_)
    replace w := w h_20 e_21
    refine jw_aload_n (pc' := 52) rfl rfl ?_
    refine jw_iload_n (pc' := 53) rfl rfl ?_
    refine jw_iinc (pc' := 56) (y := ((((jfi h_2 74 r0) + (1 : Int32)) + (1 : Int32)) + (1 : Int32)) + (1 : Int32)) (ls' := [some (vR 62 r0), some (vI (((((jfi h_2 74 r0) + (1 : Int32)) + (1 : Int32)) + (1 : Int32)) + (1 : Int32))), some (vR 65 (jfr h_2 71 r0))]) rfl (by decide) rfl rfl rfl ?_
    refine jw_bipush (pc' := 58) (x := (108 : Int32)) rfl rfl ?_
    obtain ⟨g_22, w⟩ := w
    refine jw_bast' (pc' := 59) rfl rfl rfl rfl rfl g_12 g_22 (fun h_23 e_24 => ?_)
    replace w := w h_23 e_24
    refine jw_goto (pc' := 76) rfl rfl ?_
    refine jw_gen (ls' := [some (vR 62 r0), some (vI (((((jfi h_2 74 r0) + (1 : Int32)) + (1 : Int32)) + (1 : Int32)) + (1 : Int32))), none]) (st' := []) (And.intro (Or.inl rfl) (And.intro (Or.inl rfl) (trivial))) (trivial) ?_
    exact w_J12_appendNull_76 w
def T_J12_appendNull (D : JD) (d : Nat) (Q : JO → JH → Prop) (r0 : Nat) (h : JH) : Prop := W_J12_appendNull_0 D d Q r0 h
theorem t_J12_appendNull {D : JD} {d : Nat} {Q : JO → JH → Prop} {r0 : Nat} {h : JH} (w : T_J12_appendNull D d Q r0 h) : cJ12_appendNull D (d + 1) r0 h Q := by
  unfold T_J12_appendNull at w
  unfold cJ12_appendNull
  exact w_J12_appendNull_0 w
def W_J12_putStringAt_0 (D : JD) (d : Nat) (Q : JO → JH → Prop) (r0 : Nat) (x1 : Int32) (r2 : Nat) (h : JH) : Prop :=
  r0 ≠ 0 ∧ (cJ12_inflateIfNeededFor D d r0 r2 h (pV D h (fun h_2 => r2 ≠ 0 ∧ (cJ5_getBytes D d r2 (jfr h_2 71 r0) x1 (jfi h_2 72 r0) h_2 (pV D h_2 (fun h_6 => Q (.inl none) h_6) (jth Q)))) (jth Q)))
theorem w_J12_putStringAt_0 {D : JD} {d : Nat} {Q : JO → JH → Prop} {r0 : Nat} {x1 : Int32} {r2 : Nat} {h : JH} (w : W_J12_putStringAt_0 D d Q r0 x1 r2 h) : JW D (d + 1) mJ12_putStringAt 0 [some (vR 62 r0), some (vI x1), some (vR 64 r2)] [] h Q := by
  unfold W_J12_putStringAt_0 at w
  refine jw_aload_n (pc' := 1) rfl rfl ?_
  refine jw_aload_n (pc' := 2) rfl rfl ?_
  obtain ⟨g_1, w⟩ := w
  refine jw_cV (st := []) (sa := [vR 62 r0, vR 64 r2]) okJ12_inflateIfNeededFor rfl rfl rfl rfl rfl rfl (jstp_priv (sa := [vR 64 r2]) (st := []) rfl rfl jpmJ12_inflateIfNeededFor (jtb_mem (c := 4) (i := 124) rfl) okJ12_inflateIfNeededFor g_1 rfl rfl) w (fun h_2 _ _ w => ?_)
  refine jw_aload_n (pc' := 6) rfl rfl ?_
  refine jw_aload_n (pc' := 7) rfl rfl ?_
  refine jw_getR (pc' := 10) (F := 71) (t' := 65) rfl rfl rfl rfl rfl g_1 ?_
  refine jw_iload_n (pc' := 11) rfl rfl ?_
  refine jw_aload_n (pc' := 12) rfl rfl ?_
  refine jw_getI (pc' := 15) (F := 72) rfl rfl rfl rfl g_1 ?_
  obtain ⟨g_5, w⟩ := w
  refine jw_cV (st := []) (sa := [vR 64 r2, vR 65 (jfr h_2 71 r0), vI x1, vI (jfi h_2 72 r0)]) okJ5_getBytes rfl rfl rfl rfl rfl rfl (jstp_virtual (sa := [vR 65 (jfr h_2 71 r0), vI x1, vI (jfi h_2 72 r0)]) (st := []) (k := 0) rfl rfl sJ5_getBytes okJ5_getBytes g_5 (one64.k g_5) rfl rfl) w (fun h_6 _ _ w => ?_)
  exact jw_return rfl rfl w
def T_J12_putStringAt (D : JD) (d : Nat) (Q : JO → JH → Prop) (r0 : Nat) (x1 : Int32) (r2 : Nat) (h : JH) : Prop := W_J12_putStringAt_0 D d Q r0 x1 r2 h
theorem t_J12_putStringAt {D : JD} {d : Nat} {Q : JO → JH → Prop} {r0 : Nat} {x1 : Int32} {r2 : Nat} {h : JH} (w : T_J12_putStringAt D d Q r0 x1 r2 h) : cJ12_putStringAt D (d + 1) r0 x1 r2 h Q := by
  unfold T_J12_putStringAt at w
  unfold cJ12_putStringAt
  exact w_J12_putStringAt_0 w
def W_J12_inflateIfNeededFor_21 (D : JD) (d : Nat) (Q : JO → JH → Prop) (h : JH) : Prop :=
  Q (.inl none) h
theorem w_J12_inflateIfNeededFor_21 {D : JD} {d : Nat} {Q : JO → JH → Prop} {h : JH} (w : W_J12_inflateIfNeededFor_21 D d Q h) : JW D (d + 1) mJ12_inflateIfNeededFor 21 [none, none] [] h Q := by
  unfold W_J12_inflateIfNeededFor_21 at w
  exact jw_return rfl rfl w
def W_J12_inflateIfNeededFor_0 (D : JD) (d : Nat) (Q : JO → JH → Prop) (r0 : Nat) (r1 : Nat) (h : JH) : Prop :=
  r0 ≠ 0 ∧ (r1 ≠ 0 ∧ (cJ5_coder D d r1 h (pI D h (fun v_6 h_4 => ((jfi h 72 r0) = v_6 → W_J12_inflateIfNeededFor_21 D d Q h_4) ∧ (¬ (jfi h 72 r0) = v_6 → cJ12_inflate D d r0 h_4 (pV D h_4 (fun h_8 => W_J12_inflateIfNeededFor_21 D d Q h_8) (jth Q)))) (jth Q))))
theorem w_J12_inflateIfNeededFor_0 {D : JD} {d : Nat} {Q : JO → JH → Prop} {r0 : Nat} {r1 : Nat} {h : JH} (w : W_J12_inflateIfNeededFor_0 D d Q r0 r1 h) : JW D (d + 1) mJ12_inflateIfNeededFor 0 [some (vR 62 r0), some (vR 64 r1)] [] h Q := by
  unfold W_J12_inflateIfNeededFor_0 at w
  refine jw_getsI (pc' := 3) (v := (1 : Int32)) rfl rfl (by decide +kernel) ?_
  refine jw_if_eq (tgt := 21) (pc' := 6) rfl rfl (fun c_1 => absurd c_1 (by decide)) (fun _ => ?_)
  refine jw_aload_n (pc' := 7) rfl rfl ?_
  obtain ⟨g_2, w⟩ := w
  refine jw_getI (pc' := 10) (F := 72) rfl rfl rfl rfl g_2 ?_
  refine jw_aload_n (pc' := 11) rfl rfl ?_
  obtain ⟨g_3, w⟩ := w
  refine jw_cI (st := [vI (jfi h 72 r0)]) (sa := [vR 64 r1]) okJ5_coder rfl rfl rfl rfl rfl rfl (jstp_virtual (sa := []) (st := [vI (jfi h 72 r0)]) (k := 0) rfl rfl sJ5_coder okJ5_coder g_3 (one64.k g_3) rfl rfl) w (fun v_6 h_4 _ _ w => ?_)
  refine jw_icmp_eq (tgt := 21) (pc' := 17) rfl rfl (fun c_7 => ?_) (fun c_7 => ?_)
  · replace w := w.1 c_7
    refine jw_gen (ls' := [none, none]) (st' := []) (trivial) (trivial) ?_
    exact w_J12_inflateIfNeededFor_21 w
  · replace w := w.2 c_7
    refine jw_aload_n (pc' := 18) rfl rfl ?_
    refine jw_cV (st := []) (sa := [vR 62 r0]) okJ12_inflate rfl rfl rfl rfl rfl rfl (jstp_priv (sa := []) (st := []) rfl rfl jpmJ12_inflate (jtb_mem (c := 3) (i := 210) rfl) okJ12_inflate g_2 rfl rfl) w (fun h_8 _ _ w => ?_)
    refine jw_gen (ls' := [none, none]) (st' := []) (trivial) (trivial) ?_
    exact w_J12_inflateIfNeededFor_21 w
def T_J12_inflateIfNeededFor (D : JD) (d : Nat) (Q : JO → JH → Prop) (r0 : Nat) (r1 : Nat) (h : JH) : Prop := W_J12_inflateIfNeededFor_0 D d Q r0 r1 h
theorem t_J12_inflateIfNeededFor {D : JD} {d : Nat} {Q : JO → JH → Prop} {r0 : Nat} {r1 : Nat} {h : JH} (w : T_J12_inflateIfNeededFor D d Q r0 r1 h) : cJ12_inflateIfNeededFor D (d + 1) r0 r1 h Q := by
  unfold T_J12_inflateIfNeededFor at w
  unfold cJ12_inflateIfNeededFor
  exact w_J12_inflateIfNeededFor_0 w
def W_J13_init_0 (D : JD) (d : Nat) (Q : JO → JH → Prop) (r0 : Nat) (h : JH) : Prop :=
  r0 ≠ 0 ∧ (cJ12_init D d r0 (16 : Int32) h (pV D h (fun h_2 => Q (.inl none) h_2) (jth Q)))
theorem w_J13_init_0 {D : JD} {d : Nat} {Q : JO → JH → Prop} {r0 : Nat} {h : JH} (w : W_J13_init_0 D d Q r0 h) : JW D (d + 1) mJ13_init 0 [some (vR 11 r0)] [] h Q := by
  unfold W_J13_init_0 at w
  refine jw_aload_n (pc' := 1) rfl rfl ?_
  refine jw_bipush (pc' := 3) (x := (16 : Int32)) rfl rfl ?_
  obtain ⟨g_1, w⟩ := w
  refine jw_cV (st := []) (sa := [vR 11 r0, vI (16 : Int32)]) okJ12_init rfl rfl rfl rfl rfl rfl (jstp_init (sa := [vI (16 : Int32)]) (st := []) rfl rfl sJ12_init okJ12_init (lw_g (jtb_mem (c := 3) (i := 137) rfl) rfl) g_1 rfl rfl) w (fun h_2 _ _ w => ?_)
  exact jw_return rfl rfl w
def T_J13_init (D : JD) (d : Nat) (Q : JO → JH → Prop) (r0 : Nat) (h : JH) : Prop := W_J13_init_0 D d Q r0 h
theorem t_J13_init {D : JD} {d : Nat} {Q : JO → JH → Prop} {r0 : Nat} {h : JH} (w : T_J13_init D d Q r0 h) : cJ13_init D (d + 1) r0 h Q := by
  unfold T_J13_init at w
  unfold cJ13_init
  exact w_J13_init_0 w
def W_J13_append_0 (D : JD) (d : Nat) (Q : JO → JH → Prop) (r0 : Nat) (x1 : Int32) (h : JH) : Prop :=
  r0 ≠ 0 ∧ (cJ12_append D d r0 x1 h (pR D h 62 (fun v_4 h_2 => Q (.inl (some (vR 11 r0))) h_2) (jth Q)))
theorem w_J13_append_0 {D : JD} {d : Nat} {Q : JO → JH → Prop} {r0 : Nat} {x1 : Int32} {h : JH} (w : W_J13_append_0 D d Q r0 x1 h) : JW D (d + 1) mJ13_append 0 [some (vR 11 r0), some (vI x1)] [] h Q := by
  unfold W_J13_append_0 at w
  refine jw_aload_n (pc' := 1) rfl rfl ?_
  refine jw_iload_n (pc' := 2) rfl rfl ?_
  obtain ⟨g_1, w⟩ := w
  refine jw_cR (st := []) (sa := [vR 11 r0, vI x1]) okJ12_append rfl rfl rfl rfl rfl rfl (jstp_super (sa := [vI x1]) (st := []) rfl (lw_g (jtb_mem (c := 3) (i := 165) rfl) rfl) jpmJ12_append (lw_g (jtb_mem (c := 3) (i := 160) rfl) rfl) (by decide) okJ12_append g_1 (one11.k g_1) rfl rfl) w (fun v_4 h_2 _ _ _ w => ?_)
  refine jw_pop (pc' := 6) rfl rfl ?_
  refine jw_aload_n (pc' := 7) rfl rfl ?_
  exact jw_areturn rfl rfl rfl rfl rfl w
def T_J13_append (D : JD) (d : Nat) (Q : JO → JH → Prop) (r0 : Nat) (x1 : Int32) (h : JH) : Prop := W_J13_append_0 D d Q r0 x1 h
theorem t_J13_append {D : JD} {d : Nat} {Q : JO → JH → Prop} {r0 : Nat} {x1 : Int32} {h : JH} (w : T_J13_append D d Q r0 x1 h) : cJ13_append D (d + 1) r0 x1 h Q := by
  unfold T_J13_append at w
  unfold cJ13_append
  exact w_J13_append_0 w
def W_J13_toString_0 (D : JD) (d : Nat) (Q : JO → JH → Prop) (r0 : Nat) (h : JH) : Prop :=
  ∀ (r_1 : Nat) (h_2 : JH), r_1 = jsz h + 1 → h_2 = nwo h 12 4 → (cJ5_init D d r_1 r0 h_2 (pV D h_2 (fun h_5 => Q (.inl (some (vR 64 r_1))) h_5) (jth Q)))
theorem w_J13_toString_0 {D : JD} {d : Nat} {Q : JO → JH → Prop} {r0 : Nat} {h : JH} (w : W_J13_toString_0 D d Q r0 h) : JW D (d + 1) mJ13_toString 0 [some (vR 11 r0)] [] h Q := by
  unfold W_J13_toString_0 at w
  refine jw_new' (pc' := 3) (k := 12) (n := 4) rfl rfl rfl rfl rfl rfl rfl (fun r_1 h_2 e_3 e_4 => ?_)
  replace w := w r_1 h_2 e_3 e_4
  refine jw_dup (pc' := 4) rfl rfl ?_
  refine jw_aload_n (pc' := 5) rfl rfl ?_
  refine jw_cV (st := [vR 12 r_1]) (sa := [vR 12 r_1, vR 11 r0]) okJ5_init rfl rfl rfl rfl rfl rfl (jstp_init (sa := [vR 11 r0]) (st := [vR 12 r_1]) rfl rfl sJ5_init okJ5_init (lw_g (jtb_mem (c := 4) (i := 22) rfl) rfl) (jnz e_3) rfl rfl) w (fun h_5 _ _ w => ?_)
  exact jw_areturn rfl rfl rfl rfl rfl w
def T_J13_toString (D : JD) (d : Nat) (Q : JO → JH → Prop) (r0 : Nat) (h : JH) : Prop := W_J13_toString_0 D d Q r0 h
theorem t_J13_toString {D : JD} {d : Nat} {Q : JO → JH → Prop} {r0 : Nat} {h : JH} (w : T_J13_toString D d Q r0 h) : cJ13_toString D (d + 1) r0 h Q := by
  unfold T_J13_toString at w
  unfold cJ13_toString
  exact w_J13_toString_0 w
def W_J13_length_0 (D : JD) (d : Nat) (Q : JO → JH → Prop) (r0 : Nat) (h : JH) : Prop :=
  r0 ≠ 0 ∧ (cJ12_length D d r0 h (pI D h (fun v_4 h_2 => Q (.inl (some (vI v_4))) h_2) (jth Q)))
theorem w_J13_length_0 {D : JD} {d : Nat} {Q : JO → JH → Prop} {r0 : Nat} {h : JH} (w : W_J13_length_0 D d Q r0 h) : JW D (d + 1) mJ13_length 0 [some (vR 11 r0)] [] h Q := by
  unfold W_J13_length_0 at w
  refine jw_aload_n (pc' := 1) rfl rfl ?_
  obtain ⟨g_1, w⟩ := w
  refine jw_cI (st := []) (sa := [vR 11 r0]) okJ12_length rfl rfl rfl rfl rfl rfl (jstp_super (sa := []) (st := []) rfl (lw_g (jtb_mem (c := 4) (i := 38) rfl) rfl) jpmJ12_length (lw_g (jtb_mem (c := 3) (i := 160) rfl) rfl) (by decide) okJ12_length g_1 (one11.k g_1) rfl rfl) w (fun v_4 h_2 _ _ w => ?_)
  exact jw_ireturn rfl rfl (rfl) w
def T_J13_length (D : JD) (d : Nat) (Q : JO → JH → Prop) (r0 : Nat) (h : JH) : Prop := W_J13_length_0 D d Q r0 h
theorem t_J13_length {D : JD} {d : Nat} {Q : JO → JH → Prop} {r0 : Nat} {h : JH} (w : T_J13_length D d Q r0 h) : cJ13_length D (d + 1) r0 h Q := by
  unfold T_J13_length at w
  unfold cJ13_length
  exact w_J13_length_0 w
def W_J13_append_2_0 (D : JD) (d : Nat) (Q : JO → JH → Prop) (r0 : Nat) (x1 : Int32) (h : JH) : Prop :=
  r0 ≠ 0 ∧ (cJ12_append_2 D d r0 x1 h (pR D h 62 (fun v_4 h_2 => Q (.inl (some (vR 11 r0))) h_2) (jth Q)))
theorem w_J13_append_2_0 {D : JD} {d : Nat} {Q : JO → JH → Prop} {r0 : Nat} {x1 : Int32} {h : JH} (w : W_J13_append_2_0 D d Q r0 x1 h) : JW D (d + 1) mJ13_append_2 0 [some (vR 11 r0), some (vI x1)] [] h Q := by
  unfold W_J13_append_2_0 at w
  refine jw_aload_n (pc' := 1) rfl rfl ?_
  refine jw_iload_n (pc' := 2) rfl rfl ?_
  obtain ⟨g_1, w⟩ := w
  refine jw_cR (st := []) (sa := [vR 11 r0, vI x1]) okJ12_append_2 rfl rfl rfl rfl rfl rfl (jstp_super (sa := [vI x1]) (st := []) rfl (lw_g (jtb_mem (c := 4) (i := 65) rfl) rfl) jpmJ12_append_2 (lw_g (jtb_mem (c := 3) (i := 160) rfl) rfl) (by decide) okJ12_append_2 g_1 (one11.k g_1) rfl rfl) w (fun v_4 h_2 _ _ _ w => ?_)
  refine jw_pop (pc' := 6) rfl rfl ?_
  refine jw_aload_n (pc' := 7) rfl rfl ?_
  exact jw_areturn rfl rfl rfl rfl rfl w
def T_J13_append_2 (D : JD) (d : Nat) (Q : JO → JH → Prop) (r0 : Nat) (x1 : Int32) (h : JH) : Prop := W_J13_append_2_0 D d Q r0 x1 h
theorem t_J13_append_2 {D : JD} {d : Nat} {Q : JO → JH → Prop} {r0 : Nat} {x1 : Int32} {h : JH} (w : T_J13_append_2 D d Q r0 x1 h) : cJ13_append_2 D (d + 1) r0 x1 h Q := by
  unfold T_J13_append_2 at w
  unfold cJ13_append_2
  exact w_J13_append_2_0 w
def W_J13_append_3_0 (D : JD) (d : Nat) (Q : JO → JH → Prop) (r0 : Nat) (r1 : Nat) (h : JH) : Prop :=
  r0 ≠ 0 ∧ (cJ12_append_3 D d r0 r1 h (pR D h 62 (fun v_4 h_2 => Q (.inl (some (vR 11 r0))) h_2) (jth Q)))
theorem w_J13_append_3_0 {D : JD} {d : Nat} {Q : JO → JH → Prop} {r0 : Nat} {r1 : Nat} {h : JH} (w : W_J13_append_3_0 D d Q r0 r1 h) : JW D (d + 1) mJ13_append_3 0 [some (vR 11 r0), some (vR 64 r1)] [] h Q := by
  unfold W_J13_append_3_0 at w
  refine jw_aload_n (pc' := 1) rfl rfl ?_
  refine jw_aload_n (pc' := 2) rfl rfl ?_
  obtain ⟨g_1, w⟩ := w
  refine jw_cR (st := []) (sa := [vR 11 r0, vR 64 r1]) okJ12_append_3 rfl rfl rfl rfl rfl rfl (jstp_super (sa := [vR 64 r1]) (st := []) rfl (lw_g (jtb_mem (c := 4) (i := 100) rfl) rfl) jpmJ12_append_3 (lw_g (jtb_mem (c := 3) (i := 160) rfl) rfl) (by decide) okJ12_append_3 g_1 (one11.k g_1) rfl rfl) w (fun v_4 h_2 _ _ _ w => ?_)
  refine jw_pop (pc' := 6) rfl rfl ?_
  refine jw_aload_n (pc' := 7) rfl rfl ?_
  exact jw_areturn rfl rfl rfl rfl rfl w
def T_J13_append_3 (D : JD) (d : Nat) (Q : JO → JH → Prop) (r0 : Nat) (r1 : Nat) (h : JH) : Prop := W_J13_append_3_0 D d Q r0 r1 h
theorem t_J13_append_3 {D : JD} {d : Nat} {Q : JO → JH → Prop} {r0 : Nat} {r1 : Nat} {h : JH} (w : T_J13_append_3 D d Q r0 r1 h) : cJ13_append_3 D (d + 1) r0 r1 h Q := by
  unfold T_J13_append_3 at w
  unfold cJ13_append_3
  exact w_J13_append_3_0 w
def W_J14_newLength_21 (D : JD) (d : Nat) (Q : JO → JH → Prop) (x0 : Int32) (x1 : Int32) (h : JH) : Prop :=
  cJ14_hugeLength D d x0 x1 h (pI D h (fun v_3 h_1 => Q (.inl (some (vI v_3))) h_1) (jth Q))
theorem w_J14_newLength_21 {D : JD} {d : Nat} {Q : JO → JH → Prop} {x0 : Int32} {x1 : Int32} {h : JH} (w : W_J14_newLength_21 D d Q x0 x1 h) : JW D (d + 1) mJ14_newLength 21 [some (vI x0), some (vI x1), none, none] [] h Q := by
  unfold W_J14_newLength_21 at w
  refine jw_iload_n (pc' := 22) rfl rfl ?_
  refine jw_iload_n (pc' := 23) rfl rfl ?_
  refine jw_cI (st := []) (sa := [vI x0, vI x1]) okJ14_hugeLength rfl rfl rfl rfl rfl rfl (jstp_static (sa := [vI x0, vI x1]) (st := []) rfl rfl sJ14_hugeLength okJ14_hugeLength rfl rfl) w (fun v_3 h_1 _ _ w => ?_)
  exact jw_ireturn rfl rfl (rfl) w
def W_J14_newLength_0 (D : JD) (d : Nat) (Q : JO → JH → Prop) (x0 : Int32) (x1 : Int32) (x2 : Int32) (h : JH) : Prop :=
  cJ15_max D d x1 x2 h (pI D h (fun v_3 h_1 => ((x0 + v_3) ≤ (0 : Int32) → W_J14_newLength_21 D d Q x0 x1 h_1) ∧ (¬ (x0 + v_3) ≤ (0 : Int32) → ((2147483639 : Int32) < (x0 + v_3) → W_J14_newLength_21 D d Q x0 x1 h_1) ∧ (¬ (2147483639 : Int32) < (x0 + v_3) → Q (.inl (some (vI (x0 + v_3)))) h_1))) (jth Q))
theorem w_J14_newLength_0 {D : JD} {d : Nat} {Q : JO → JH → Prop} {x0 : Int32} {x1 : Int32} {x2 : Int32} {h : JH} (w : W_J14_newLength_0 D d Q x0 x1 x2 h) : JW D (d + 1) mJ14_newLength 0 [some (vI x0), some (vI x1), some (vI x2), none] [] h Q := by
  unfold W_J14_newLength_0 at w
  refine jw_iload_n (pc' := 1) rfl rfl ?_
  refine jw_iload_n (pc' := 2) rfl rfl ?_
  refine jw_iload_n (pc' := 3) rfl rfl ?_
  refine jw_cI (st := [vI x0]) (sa := [vI x1, vI x2]) okJ15_max rfl rfl rfl rfl rfl rfl (jstp_static (sa := [vI x1, vI x2]) (st := [vI x0]) rfl rfl sJ15_max okJ15_max rfl rfl) w (fun v_3 h_1 _ _ w => ?_)
  refine jw_iadd (pc' := 7) rfl ?_
  refine jw_istore_n (pc' := 8) (ls' := [some (vI x0), some (vI x1), some (vI x2), some (vI (x0 + v_3))]) rfl (by decide) rfl ?_
  refine jw_iconst (pc' := 9) (x := (0 : Int32)) rfl rfl ?_
  refine jw_iload_n (pc' := 10) rfl rfl ?_
  refine jw_icmp_ge (tgt := 21) (pc' := 13) rfl rfl (fun c_4 => ?_) (fun c_4 => ?_)
  · replace w := w.1 c_4
    refine jw_gen (ls' := [some (vI x0), some (vI x1), none, none]) (st' := []) (And.intro (Or.inl rfl) (And.intro (Or.inl rfl) (trivial))) (trivial) ?_
    exact w_J14_newLength_21 w
  · replace w := w.2 c_4
    refine jw_iload_n (pc' := 14) rfl rfl ?_
    refine jw_ldcI (pc' := 16) (v := (2147483639 : Int32)) rfl rfl (by decide +kernel) ?_
    refine jw_icmp_gt (tgt := 21) (pc' := 19) rfl rfl (fun c_5 => ?_) (fun c_5 => ?_)
    · replace w := w.1 c_5
      refine jw_gen (ls' := [some (vI x0), some (vI x1), none, none]) (st' := []) (And.intro (Or.inl rfl) (And.intro (Or.inl rfl) (trivial))) (trivial) ?_
      exact w_J14_newLength_21 w
    · replace w := w.2 c_5
      refine jw_iload_n (pc' := 20) rfl rfl ?_
      exact jw_ireturn rfl rfl (rfl) w
def T_J14_newLength (D : JD) (d : Nat) (Q : JO → JH → Prop) (x0 : Int32) (x1 : Int32) (x2 : Int32) (h : JH) : Prop := W_J14_newLength_0 D d Q x0 x1 x2 h
theorem t_J14_newLength {D : JD} {d : Nat} {Q : JO → JH → Prop} {x0 : Int32} {x1 : Int32} {x2 : Int32} {h : JH} (w : T_J14_newLength D d Q x0 x1 x2 h) : cJ14_newLength D (d + 1) x0 x1 x2 h Q := by
  unfold T_J14_newLength at w
  unfold cJ14_newLength
  exact w_J14_newLength_0 w
def W_J14_hugeLength_0 (D : JD) (d : Nat) (Q : JO → JH → Prop) (x0 : Int32) (x1 : Int32) (h : JH) : Prop :=
  (0 ≤ (x0 + x1) → ((2147483639 : Int32) < (x0 + x1) → Q (.inl (some (vI (x0 + x1)))) h) ∧ (¬ (2147483639 : Int32) < (x0 + x1) → Q (.inl (some (vI (2147483639 : Int32)))) h)) ∧ (¬ 0 ≤ (x0 + x1) → False)
theorem w_J14_hugeLength_0 {D : JD} {d : Nat} {Q : JO → JH → Prop} {x0 : Int32} {x1 : Int32} {h : JH} (w : W_J14_hugeLength_0 D d Q x0 x1 h) : JW D (d + 1) mJ14_hugeLength 0 [some (vI x0), some (vI x1), none] [] h Q := by
  unfold W_J14_hugeLength_0 at w
  refine jw_iload_n (pc' := 1) rfl rfl ?_
  refine jw_iload_n (pc' := 2) rfl rfl ?_
  refine jw_iadd (pc' := 3) rfl ?_
  refine jw_istore_n (pc' := 4) (ls' := [some (vI x0), some (vI x1), some (vI (x0 + x1))]) rfl (by decide) rfl ?_
  refine jw_iload_n (pc' := 5) rfl rfl ?_
  refine jw_if_ge (tgt := 49) (pc' := 8) rfl rfl (fun c_1 => ?_) (fun c_1 => ?_)
  · replace w := w.1 c_1
    refine jw_iload_n (pc' := 50) rfl rfl ?_
    refine jw_ldcI (pc' := 52) (v := (2147483639 : Int32)) rfl rfl (by decide +kernel) ?_
    refine jw_icmp_gt (tgt := 58) (pc' := 55) rfl rfl (fun c_2 => ?_) (fun c_2 => ?_)
    · replace w := w.1 c_2
      refine jw_iload_n (pc' := 59) rfl rfl ?_
      exact jw_ireturn rfl rfl (rfl) w
    · replace w := w.2 c_2
      refine jw_ldcI (pc' := 57) (v := (2147483639 : Int32)) rfl rfl (by decide +kernel) ?_
      exact jw_ireturn rfl rfl (rfl) w
  · replace w := w.2 c_1
    exact w.elim
def T_J14_hugeLength (D : JD) (d : Nat) (Q : JO → JH → Prop) (x0 : Int32) (x1 : Int32) (h : JH) : Prop := W_J14_hugeLength_0 D d Q x0 x1 h
theorem t_J14_hugeLength {D : JD} {d : Nat} {Q : JO → JH → Prop} {x0 : Int32} {x1 : Int32} {h : JH} (w : T_J14_hugeLength D d Q x0 x1 h) : cJ14_hugeLength D (d + 1) x0 x1 h Q := by
  unfold T_J14_hugeLength at w
  unfold cJ14_hugeLength
  exact w_J14_hugeLength_0 w
def W_J14_vectorizedHashCode_157 (D : JD) (d : Nat) (Q : JO → JH → Prop) (s0 : Int32) (h : JH) : Prop :=
  Q (.inl (some (vI s0))) h
theorem w_J14_vectorizedHashCode_157 {D : JD} {d : Nat} {Q : JO → JH → Prop} {s0 : Int32} {h : JH} (w : W_J14_vectorizedHashCode_157 D d Q s0 h) : JW D (d + 1) mJ14_vectorizedHashCode 157 [none, none, none, none, none] [vI s0] h Q := by
  unfold W_J14_vectorizedHashCode_157 at w
  exact jw_ireturn rfl rfl (rfl) w
def W_J14_vectorizedHashCode_0 (D : JD) (d : Nat) (Q : JO → JH → Prop) (r0 : Nat) (x1 : Int32) (x2 : Int32) (x3 : Int32) (x4 : Int32) (h : JH) : Prop :=
  (x4 = (4 : Int32) → r0 ≠ 0 ∧ (cJ14_signedHashCode D d x3 r0 x1 x2 h (pI D h (fun v_5 h_3 => W_J14_vectorizedHashCode_157 D d Q v_5 h_3) (jth Q)))) ∧ (x4 = (5 : Int32) → False) ∧ (x4 = (8 : Int32) → r0 ≠ 0 ∧ (cJ14_hashCode_2 D d x3 r0 x1 x2 h (pI D h (fun v_11 h_9 => W_J14_vectorizedHashCode_157 D d Q v_11 h_9) (jth Q)))) ∧ (x4 = (9 : Int32) → False) ∧ (x4 = (10 : Int32) → False) ∧ (¬ x4 = (4 : Int32) → ¬ x4 = (5 : Int32) → ¬ x4 = (8 : Int32) → ¬ x4 = (9 : Int32) → ¬ x4 = (10 : Int32) → ∀ (r_14 : Nat) (h_15 : JH), r_14 = jsz h + 1 → h_15 = nwo h 13 6 → (∀ (r_18 : Nat) (h_19 : JH), r_18 = jsz h_15 + 1 → h_19 = nwo h_15 11 4 → (cJ13_init D d r_18 h_19 (pV D h_19 (fun h_22 => cJ13_append_3 D d r_18 (jcs D 31) h_22 (pR D h_22 11 (fun v_27 h_25 => v_27 ≠ 0 ∧ (cJ13_append_2 D d v_27 x4 h_25 (pR D h_25 11 (fun v_31 h_29 => v_31 ≠ 0 ∧ (cJ13_toString D d v_31 h_29 (pR D h_29 64 (fun v_35 h_33 => cJ6_init D d r_14 v_35 h_33 (pV D h_33 (fun h_36 => Q (.inr r_14) h_36) (jth Q))) (jth Q)))) (jth Q)))) (jth Q))) (jth Q)))))
theorem w_J14_vectorizedHashCode_0 {D : JD} {d : Nat} {Q : JO → JH → Prop} {r0 : Nat} {x1 : Int32} {x2 : Int32} {x3 : Int32} {x4 : Int32} {h : JH} (w : W_J14_vectorizedHashCode_0 D d Q r0 x1 x2 x3 x4 h) : JW D (d + 1) mJ14_vectorizedHashCode 0 [some (vR 67 r0), some (vI x1), some (vI x2), some (vI x3), some (vI x4)] [] h Q := by
  unfold W_J14_vectorizedHashCode_0 at w
  refine jw_iload (pc' := 2) rfl rfl ?_
  refine jw_tsw (cs := [((4 : Int32), 44), ((5 : Int32), 57), ((8 : Int32), 90), ((9 : Int32), 103), ((10 : Int32), 116)]) (dt := 129) rfl (by decide +kernel) ?_
  by_cases c_1 : x4 = (4 : Int32)
  · rw [jsw_hit c_1]
    replace w := w.1 c_1
    refine jw_iload_n (pc' := 45) rfl rfl ?_
    refine jw_aload_n (pc' := 46) rfl rfl ?_
    obtain ⟨g_2, w⟩ := w
    refine jw_castA (pc' := 49) rfl rfl rfl rfl rfl g_2 ?_
    refine jw_iload_n (pc' := 50) rfl rfl ?_
    refine jw_iload_n (pc' := 51) rfl rfl ?_
    refine jw_cI (st := []) (sa := [vI x3, vR 67 r0, vI x1, vI x2]) okJ14_signedHashCode rfl rfl rfl rfl rfl rfl (jstp_static (sa := [vI x3, vR 67 r0, vI x1, vI x2]) (st := []) rfl rfl sJ14_signedHashCode okJ14_signedHashCode rfl rfl) w (fun v_5 h_3 _ _ w => ?_)
    refine jw_goto (pc' := 157) rfl rfl ?_
    refine jw_gen (ls' := [none, none, none, none, none]) (st' := [vI v_5]) (trivial) (And.intro (Or.inl rfl) (trivial)) ?_
    exact w_J14_vectorizedHashCode_157 w
  · rw [jsw_miss c_1]
    replace w := w.2
    by_cases c_6 : x4 = (5 : Int32)
    · rw [jsw_hit c_6]
      replace w := w.1 c_6
      refine jw_aload_n (pc' := 58) rfl rfl ?_
      exact w.elim
    · rw [jsw_miss c_6]
      replace w := w.2
      by_cases c_7 : x4 = (8 : Int32)
      · rw [jsw_hit c_7]
        replace w := w.1 c_7
        refine jw_iload_n (pc' := 91) rfl rfl ?_
        refine jw_aload_n (pc' := 92) rfl rfl ?_
        obtain ⟨g_8, w⟩ := w
        refine jw_castA (pc' := 95) rfl rfl rfl rfl rfl g_8 ?_
        refine jw_iload_n (pc' := 96) rfl rfl ?_
        refine jw_iload_n (pc' := 97) rfl rfl ?_
        refine jw_cI (st := []) (sa := [vI x3, vR 67 r0, vI x1, vI x2]) okJ14_hashCode_2 rfl rfl rfl rfl rfl rfl (jstp_static (sa := [vI x3, vR 67 r0, vI x1, vI x2]) (st := []) rfl rfl sJ14_hashCode_2 okJ14_hashCode_2 rfl rfl) w (fun v_11 h_9 _ _ w => ?_)
        refine jw_goto (pc' := 157) rfl rfl ?_
        refine jw_gen (ls' := [none, none, none, none, none]) (st' := [vI v_11]) (trivial) (And.intro (Or.inl rfl) (trivial)) ?_
        exact w_J14_vectorizedHashCode_157 w
      · rw [jsw_miss c_7]
        replace w := w.2
        by_cases c_12 : x4 = (9 : Int32)
        · rw [jsw_hit c_12]
          replace w := w.1 c_12
          refine jw_iload_n (pc' := 104) rfl rfl ?_
          refine jw_aload_n (pc' := 105) rfl rfl ?_
          exact w.elim
        · rw [jsw_miss c_12]
          replace w := w.2
          by_cases c_13 : x4 = (10 : Int32)
          · rw [jsw_hit c_13]
            replace w := w.1 c_13
            refine jw_iload_n (pc' := 117) rfl rfl ?_
            refine jw_aload_n (pc' := 118) rfl rfl ?_
            exact w.elim
          · rw [jsw_miss c_13]
            replace w := w.2
            rw [jsw_nil]
            replace w := w c_1 c_6 c_7 c_12 c_13
            refine jw_new' (pc' := 132) (k := 13) (n := 6) rfl rfl rfl rfl rfl rfl rfl (fun r_14 h_15 e_16 e_17 => ?_)
            replace w := w r_14 h_15 e_16 e_17
            refine jw_dup (pc' := 133) rfl rfl ?_
            refine jw_new' (pc' := 136) (k := 11) (n := 4) rfl rfl rfl rfl rfl rfl rfl (fun r_18 h_19 e_20 e_21 => ?_)
            replace w := w r_18 h_19 e_20 e_21
            refine jw_dup (pc' := 137) rfl rfl ?_
            refine jw_cV (st := [vR 11 r_18, vR 13 r_14, vR 13 r_14]) (sa := [vR 11 r_18]) okJ13_init rfl rfl rfl rfl rfl rfl (jstp_init (sa := []) (st := [vR 11 r_18, vR 13 r_14, vR 13 r_14]) rfl rfl sJ13_init okJ13_init (lw_g (jtb_mem (c := 3) (i := 134) rfl) rfl) (jnz e_20) rfl rfl) w (fun h_22 _ _ w => ?_)
            refine jw_ldcS (pc' := 142) rfl rfl rfl rfl ?_
            refine jw_cR (st := [vR 13 r_14, vR 13 r_14]) (sa := [vR 11 r_18, vR 51 (jcs D 31)]) okJ13_append_3 rfl rfl rfl rfl rfl rfl (jstp_virtual (sa := [vR 51 (jcs D 31)]) (st := [vR 13 r_14, vR 13 r_14]) (k := 0) rfl rfl sJ13_append_3 okJ13_append_3 (jnz e_20) (one11.k (jnz e_20)) rfl rfl) w (fun v_27 h_25 _ _ _ w => ?_)
            refine jw_iload (pc' := 147) rfl rfl ?_
            obtain ⟨g_28, w⟩ := w
            refine jw_cR (st := [vR 13 r_14, vR 13 r_14]) (sa := [vR 11 v_27, vI x4]) okJ13_append_2 rfl rfl rfl rfl rfl rfl (jstp_virtual (sa := [vI x4]) (st := [vR 13 r_14, vR 13 r_14]) (k := 0) rfl rfl sJ13_append_2 okJ13_append_2 g_28 (one11.k g_28) rfl rfl) w (fun v_31 h_29 _ _ _ w => ?_)
            obtain ⟨g_32, w⟩ := w
            refine jw_cR (st := [vR 13 r_14, vR 13 r_14]) (sa := [vR 11 v_31]) okJ13_toString rfl rfl rfl rfl rfl rfl (jstp_virtual (sa := []) (st := [vR 13 r_14, vR 13 r_14]) (k := 0) rfl rfl sJ13_toString okJ13_toString g_32 (one11.k g_32) rfl rfl) w (fun v_35 h_33 _ _ _ w => ?_)
            refine jw_cV (st := [vR 13 r_14]) (sa := [vR 13 r_14, vR 64 v_35]) okJ6_init rfl rfl rfl rfl rfl rfl (jstp_init (sa := [vR 64 v_35]) (st := [vR 13 r_14]) rfl rfl sJ6_init okJ6_init (lw_g (jtb_mem (c := 4) (i := 137) rfl) rfl) (jnz e_16) rfl rfl) w (fun h_36 _ _ w => ?_)
            exact jw_athrow rfl rfl (jnz e_16) w
def T_J14_vectorizedHashCode (D : JD) (d : Nat) (Q : JO → JH → Prop) (r0 : Nat) (x1 : Int32) (x2 : Int32) (x3 : Int32) (x4 : Int32) (h : JH) : Prop := W_J14_vectorizedHashCode_0 D d Q r0 x1 x2 x3 x4 h
theorem t_J14_vectorizedHashCode {D : JD} {d : Nat} {Q : JO → JH → Prop} {r0 : Nat} {x1 : Int32} {x2 : Int32} {x3 : Int32} {x4 : Int32} {h : JH} (w : T_J14_vectorizedHashCode D d Q r0 x1 x2 x3 x4 h) : cJ14_vectorizedHashCode D (d + 1) r0 x1 x2 x3 x4 h Q := by
  unfold T_J14_vectorizedHashCode at w
  unfold cJ14_vectorizedHashCode
  exact w_J14_vectorizedHashCode_0 w
def W_J14_signedHashCode_8 (D : JD) (d : Nat) (Q : JO → JH → Prop) (K8 : Int32 → Nat → Int32 → Int32 → JH → Prop) (x0 : Int32) (r1 : Nat) (x4 : Int32) (x5 : Int32) (h : JH) : Prop :=
  (x4 ≤ x5 → Q (.inl (some (vI x0))) h) ∧ (¬ x4 ≤ x5 → r1 ≠ 0 ∧ jin x5 (jln h r1) ∧ (K8 (((31 : Int32) * x0) + ((jai h r1 (ixn x5)) &&& (255 : Int32))) r1 x4 (x5 + (1 : Int32)) h))
theorem w_J14_signedHashCode_8 {D : JD} {d : Nat} {Q : JO → JH → Prop} {K8 : Int32 → Nat → Int32 → Int32 → JH → Prop} {x0 : Int32} {r1 : Nat} {x4 : Int32} {x5 : Int32} {h : JH} (hK8 : ∀ (x0 : Int32) (r1 : Nat) (x4 : Int32) (x5 : Int32) (h : JH), K8 x0 r1 x4 x5 h → JW D (d + 1) mJ14_signedHashCode 8 [some (vI x0), some (vR 67 r1), none, none, some (vI x4), some (vI x5)] [] h Q) (w : W_J14_signedHashCode_8 D d Q K8 x0 r1 x4 x5 h) : JW D (d + 1) mJ14_signedHashCode 8 [some (vI x0), some (vR 67 r1), none, none, some (vI x4), some (vI x5)] [] h Q := by
  unfold W_J14_signedHashCode_8 at w
  refine jw_iload (pc' := 10) rfl rfl ?_
  refine jw_iload (pc' := 12) rfl rfl ?_
  refine jw_icmp_ge (tgt := 35) (pc' := 15) rfl rfl (fun c_1 => ?_) (fun c_1 => ?_)
  · replace w := w.1 c_1
    refine jw_iload_n (pc' := 36) rfl rfl ?_
    exact jw_ireturn rfl rfl (rfl) w
  · replace w := w.2 c_1
    refine jw_bipush (pc' := 17) (x := (31 : Int32)) rfl rfl ?_
    refine jw_iload_n (pc' := 18) rfl rfl ?_
    refine jw_imul (pc' := 19) rfl ?_
    refine jw_aload_n (pc' := 20) rfl rfl ?_
    refine jw_iload (pc' := 22) rfl rfl ?_
    obtain ⟨g_2, w⟩ := w
    obtain ⟨g_3, w⟩ := w
    refine jw_bald (pc' := 23) rfl rfl rfl rfl g_2 g_3.ix g_3.2 ?_
    refine jw_sipush (pc' := 26) (x := (255 : Int32)) rfl rfl ?_
    refine jw_iand (pc' := 27) rfl ?_
    refine jw_iadd (pc' := 28) rfl ?_
    refine jw_istore_n (pc' := 29) (ls' := [some (vI (((31 : Int32) * x0) + ((jai h r1 (ixn x5)) &&& (255 : Int32)))), some (vR 67 r1), none, none, some (vI x4), some (vI x5)]) rfl (by decide) rfl ?_
    refine jw_iinc (pc' := 32) (y := x5 + (1 : Int32)) (ls' := [some (vI (((31 : Int32) * x0) + ((jai h r1 (ixn x5)) &&& (255 : Int32)))), some (vR 67 r1), none, none, some (vI x4), some (vI (x5 + (1 : Int32)))]) rfl (by decide) rfl rfl rfl ?_
    refine jw_goto (pc' := 8) rfl rfl ?_
    exact hK8 _ _ _ _ _ w
def L_J14_signedHashCode_8 (D : JD) (d : Nat) (Q : JO → JH → Prop) : Nat → Int32 → Nat → Int32 → Int32 → JH → Prop
  | 0 => fun _ _ _ _ _ => False
  | n + 1 => fun x0 r1 x4 x5 h => W_J14_signedHashCode_8 D d Q (L_J14_signedHashCode_8 D d Q n) x0 r1 x4 x5 h
theorem l_J14_signedHashCode_8 {D : JD} {d : Nat} {Q : JO → JH → Prop} : ∀ (n : Nat) (x0 : Int32) (r1 : Nat) (x4 : Int32) (x5 : Int32) (h : JH), L_J14_signedHashCode_8 D d Q n x0 r1 x4 x5 h → JW D (d + 1) mJ14_signedHashCode 8 [some (vI x0), some (vR 67 r1), none, none, some (vI x4), some (vI x5)] [] h Q := by
  intro n
  induction n with
  | zero => intro _ _ _ _ _ w; exact w.elim
  | succ n ih => intro _ _ _ _ h w; exact w_J14_signedHashCode_8 ih w
def W_J14_signedHashCode_0 (D : JD) (d : Nat) (Q : JO → JH → Prop) (x0 : Int32) (r1 : Nat) (x2 : Int32) (x3 : Int32) (h : JH) : Prop :=
  ∃ n, L_J14_signedHashCode_8 D d Q n x0 r1 (x2 + x3) x2 h
theorem w_J14_signedHashCode_0 {D : JD} {d : Nat} {Q : JO → JH → Prop} {x0 : Int32} {r1 : Nat} {x2 : Int32} {x3 : Int32} {h : JH} (w : W_J14_signedHashCode_0 D d Q x0 r1 x2 x3 h) : JW D (d + 1) mJ14_signedHashCode 0 [some (vI x0), some (vR 67 r1), some (vI x2), some (vI x3), none, none] [] h Q := by
  unfold W_J14_signedHashCode_0 at w
  refine jw_iload_n (pc' := 1) rfl rfl ?_
  refine jw_iload_n (pc' := 2) rfl rfl ?_
  refine jw_iadd (pc' := 3) rfl ?_
  refine jw_istore (pc' := 5) (ls' := [some (vI x0), some (vR 67 r1), some (vI x2), some (vI x3), some (vI (x2 + x3)), none]) rfl (by decide) rfl ?_
  refine jw_iload_n (pc' := 6) rfl rfl ?_
  refine jw_istore (pc' := 8) (ls' := [some (vI x0), some (vR 67 r1), some (vI x2), some (vI x3), some (vI (x2 + x3)), some (vI x2)]) rfl (by decide) rfl ?_
  refine jw_gen (ls' := [some (vI x0), some (vR 67 r1), none, none, some (vI (x2 + x3)), some (vI x2)]) (st' := []) (And.intro (Or.inl rfl) (And.intro (Or.inl rfl) (And.intro (Or.inl rfl) (And.intro (Or.inl rfl) (trivial))))) (trivial) ?_
  obtain ⟨n, w⟩ := w
  exact l_J14_signedHashCode_8 n _ _ _ _ _ w
def T_J14_signedHashCode (D : JD) (d : Nat) (Q : JO → JH → Prop) (x0 : Int32) (r1 : Nat) (x2 : Int32) (x3 : Int32) (h : JH) : Prop := W_J14_signedHashCode_0 D d Q x0 r1 x2 x3 h
theorem t_J14_signedHashCode {D : JD} {d : Nat} {Q : JO → JH → Prop} {x0 : Int32} {r1 : Nat} {x2 : Int32} {x3 : Int32} {h : JH} (w : T_J14_signedHashCode D d Q x0 r1 x2 x3 h) : cJ14_signedHashCode D (d + 1) x0 r1 x2 x3 h Q := by
  unfold T_J14_signedHashCode at w
  unfold cJ14_signedHashCode
  exact w_J14_signedHashCode_0 w
def W_J14_utf16hashCode_0 (D : JD) (d : Nat) (Q : JO → JH → Prop) (x0 : Int32) (r1 : Nat) (x2 : Int32) (x3 : Int32) (h : JH) : Prop :=
  ((x2 + x3) ≤ x2 → Q (.inl (some (vI x0))) h) ∧ (¬ (x2 + x3) ≤ x2 → False)
theorem w_J14_utf16hashCode_0 {D : JD} {d : Nat} {Q : JO → JH → Prop} {x0 : Int32} {r1 : Nat} {x2 : Int32} {x3 : Int32} {h : JH} (w : W_J14_utf16hashCode_0 D d Q x0 r1 x2 x3 h) : JW D (d + 1) mJ14_utf16hashCode 0 [some (vI x0), some (vR 67 r1), some (vI x2), some (vI x3), none, none] [] h Q := by
  unfold W_J14_utf16hashCode_0 at w
  refine jw_iload_n (pc' := 1) rfl rfl ?_
  refine jw_iload_n (pc' := 2) rfl rfl ?_
  refine jw_iadd (pc' := 3) rfl ?_
  refine jw_istore (pc' := 5) (ls' := [some (vI x0), some (vR 67 r1), some (vI x2), some (vI x3), some (vI (x2 + x3)), none]) rfl (by decide) rfl ?_
  refine jw_iload_n (pc' := 6) rfl rfl ?_
  refine jw_istore (pc' := 8) (ls' := [some (vI x0), some (vR 67 r1), some (vI x2), some (vI x3), some (vI (x2 + x3)), some (vI x2)]) rfl (by decide) rfl ?_
  refine jw_iload (pc' := 10) rfl rfl ?_
  refine jw_iload (pc' := 12) rfl rfl ?_
  refine jw_icmp_ge (tgt := 38) (pc' := 15) rfl rfl (fun c_1 => ?_) (fun c_1 => ?_)
  · replace w := w.1 c_1
    refine jw_iload_n (pc' := 39) rfl rfl ?_
    exact jw_ireturn rfl rfl (rfl) w
  · replace w := w.2 c_1
    refine jw_bipush (pc' := 17) (x := (31 : Int32)) rfl rfl ?_
    refine jw_iload_n (pc' := 18) rfl rfl ?_
    refine jw_imul (pc' := 19) rfl ?_
    exact w.elim
def T_J14_utf16hashCode (D : JD) (d : Nat) (Q : JO → JH → Prop) (x0 : Int32) (r1 : Nat) (x2 : Int32) (x3 : Int32) (h : JH) : Prop := W_J14_utf16hashCode_0 D d Q x0 r1 x2 x3 h
theorem t_J14_utf16hashCode {D : JD} {d : Nat} {Q : JO → JH → Prop} {x0 : Int32} {r1 : Nat} {x2 : Int32} {x3 : Int32} {h : JH} (w : T_J14_utf16hashCode D d Q x0 r1 x2 x3 h) : cJ14_utf16hashCode D (d + 1) x0 r1 x2 x3 h Q := by
  unfold T_J14_utf16hashCode at w
  unfold cJ14_utf16hashCode
  exact w_J14_utf16hashCode_0 w
def W_J14_hashCode_0 (D : JD) (d : Nat) (Q : JO → JH → Prop) (x0 : Int32) (r1 : Nat) (x2 : Int32) (x3 : Int32) (h : JH) : Prop :=
  ((x2 + x3) ≤ x2 → Q (.inl (some (vI x0))) h) ∧ (¬ (x2 + x3) ≤ x2 → False)
theorem w_J14_hashCode_0 {D : JD} {d : Nat} {Q : JO → JH → Prop} {x0 : Int32} {r1 : Nat} {x2 : Int32} {x3 : Int32} {h : JH} (w : W_J14_hashCode_0 D d Q x0 r1 x2 x3 h) : JW D (d + 1) mJ14_hashCode 0 [some (vI x0), some (vR 95 r1), some (vI x2), some (vI x3), none, none] [] h Q := by
  unfold W_J14_hashCode_0 at w
  refine jw_iload_n (pc' := 1) rfl rfl ?_
  refine jw_iload_n (pc' := 2) rfl rfl ?_
  refine jw_iadd (pc' := 3) rfl ?_
  refine jw_istore (pc' := 5) (ls' := [some (vI x0), some (vR 95 r1), some (vI x2), some (vI x3), some (vI (x2 + x3)), none]) rfl (by decide) rfl ?_
  refine jw_iload_n (pc' := 6) rfl rfl ?_
  refine jw_istore (pc' := 8) (ls' := [some (vI x0), some (vR 95 r1), some (vI x2), some (vI x3), some (vI (x2 + x3)), some (vI x2)]) rfl (by decide) rfl ?_
  refine jw_iload (pc' := 10) rfl rfl ?_
  refine jw_iload (pc' := 12) rfl rfl ?_
  refine jw_icmp_ge (tgt := 31) (pc' := 15) rfl rfl (fun c_1 => ?_) (fun c_1 => ?_)
  · replace w := w.1 c_1
    refine jw_iload_n (pc' := 32) rfl rfl ?_
    exact jw_ireturn rfl rfl (rfl) w
  · replace w := w.2 c_1
    refine jw_bipush (pc' := 17) (x := (31 : Int32)) rfl rfl ?_
    refine jw_iload_n (pc' := 18) rfl rfl ?_
    refine jw_imul (pc' := 19) rfl ?_
    refine jw_aload_n (pc' := 20) rfl rfl ?_
    refine jw_iload (pc' := 22) rfl rfl ?_
    exact w.elim
def T_J14_hashCode (D : JD) (d : Nat) (Q : JO → JH → Prop) (x0 : Int32) (r1 : Nat) (x2 : Int32) (x3 : Int32) (h : JH) : Prop := W_J14_hashCode_0 D d Q x0 r1 x2 x3 h
theorem t_J14_hashCode {D : JD} {d : Nat} {Q : JO → JH → Prop} {x0 : Int32} {r1 : Nat} {x2 : Int32} {x3 : Int32} {h : JH} (w : T_J14_hashCode D d Q x0 r1 x2 x3 h) : cJ14_hashCode D (d + 1) x0 r1 x2 x3 h Q := by
  unfold T_J14_hashCode at w
  unfold cJ14_hashCode
  exact w_J14_hashCode_0 w
def W_J14_hashCode_2_8 (D : JD) (d : Nat) (Q : JO → JH → Prop) (K8 : Int32 → Nat → Int32 → Int32 → JH → Prop) (x0 : Int32) (r1 : Nat) (x4 : Int32) (x5 : Int32) (h : JH) : Prop :=
  (x4 ≤ x5 → Q (.inl (some (vI x0))) h) ∧ (¬ x4 ≤ x5 → r1 ≠ 0 ∧ jin x5 (jln h r1) ∧ (K8 (((31 : Int32) * x0) + (jai h r1 (ixn x5))) r1 x4 (x5 + (1 : Int32)) h))
theorem w_J14_hashCode_2_8 {D : JD} {d : Nat} {Q : JO → JH → Prop} {K8 : Int32 → Nat → Int32 → Int32 → JH → Prop} {x0 : Int32} {r1 : Nat} {x4 : Int32} {x5 : Int32} {h : JH} (hK8 : ∀ (x0 : Int32) (r1 : Nat) (x4 : Int32) (x5 : Int32) (h : JH), K8 x0 r1 x4 x5 h → JW D (d + 1) mJ14_hashCode_2 8 [some (vI x0), some (vR 67 r1), none, none, some (vI x4), some (vI x5)] [] h Q) (w : W_J14_hashCode_2_8 D d Q K8 x0 r1 x4 x5 h) : JW D (d + 1) mJ14_hashCode_2 8 [some (vI x0), some (vR 67 r1), none, none, some (vI x4), some (vI x5)] [] h Q := by
  unfold W_J14_hashCode_2_8 at w
  refine jw_iload (pc' := 10) rfl rfl ?_
  refine jw_iload (pc' := 12) rfl rfl ?_
  refine jw_icmp_ge (tgt := 31) (pc' := 15) rfl rfl (fun c_1 => ?_) (fun c_1 => ?_)
  · replace w := w.1 c_1
    refine jw_iload_n (pc' := 32) rfl rfl ?_
    exact jw_ireturn rfl rfl (rfl) w
  · replace w := w.2 c_1
    refine jw_bipush (pc' := 17) (x := (31 : Int32)) rfl rfl ?_
    refine jw_iload_n (pc' := 18) rfl rfl ?_
    refine jw_imul (pc' := 19) rfl ?_
    refine jw_aload_n (pc' := 20) rfl rfl ?_
    refine jw_iload (pc' := 22) rfl rfl ?_
    obtain ⟨g_2, w⟩ := w
    obtain ⟨g_3, w⟩ := w
    refine jw_bald (pc' := 23) rfl rfl rfl rfl g_2 g_3.ix g_3.2 ?_
    refine jw_iadd (pc' := 24) rfl ?_
    refine jw_istore_n (pc' := 25) (ls' := [some (vI (((31 : Int32) * x0) + (jai h r1 (ixn x5)))), some (vR 67 r1), none, none, some (vI x4), some (vI x5)]) rfl (by decide) rfl ?_
    refine jw_iinc (pc' := 28) (y := x5 + (1 : Int32)) (ls' := [some (vI (((31 : Int32) * x0) + (jai h r1 (ixn x5)))), some (vR 67 r1), none, none, some (vI x4), some (vI (x5 + (1 : Int32)))]) rfl (by decide) rfl rfl rfl ?_
    refine jw_goto (pc' := 8) rfl rfl ?_
    exact hK8 _ _ _ _ _ w
def L_J14_hashCode_2_8 (D : JD) (d : Nat) (Q : JO → JH → Prop) : Nat → Int32 → Nat → Int32 → Int32 → JH → Prop
  | 0 => fun _ _ _ _ _ => False
  | n + 1 => fun x0 r1 x4 x5 h => W_J14_hashCode_2_8 D d Q (L_J14_hashCode_2_8 D d Q n) x0 r1 x4 x5 h
theorem l_J14_hashCode_2_8 {D : JD} {d : Nat} {Q : JO → JH → Prop} : ∀ (n : Nat) (x0 : Int32) (r1 : Nat) (x4 : Int32) (x5 : Int32) (h : JH), L_J14_hashCode_2_8 D d Q n x0 r1 x4 x5 h → JW D (d + 1) mJ14_hashCode_2 8 [some (vI x0), some (vR 67 r1), none, none, some (vI x4), some (vI x5)] [] h Q := by
  intro n
  induction n with
  | zero => intro _ _ _ _ _ w; exact w.elim
  | succ n ih => intro _ _ _ _ h w; exact w_J14_hashCode_2_8 ih w
def W_J14_hashCode_2_0 (D : JD) (d : Nat) (Q : JO → JH → Prop) (x0 : Int32) (r1 : Nat) (x2 : Int32) (x3 : Int32) (h : JH) : Prop :=
  ∃ n, L_J14_hashCode_2_8 D d Q n x0 r1 (x2 + x3) x2 h
theorem w_J14_hashCode_2_0 {D : JD} {d : Nat} {Q : JO → JH → Prop} {x0 : Int32} {r1 : Nat} {x2 : Int32} {x3 : Int32} {h : JH} (w : W_J14_hashCode_2_0 D d Q x0 r1 x2 x3 h) : JW D (d + 1) mJ14_hashCode_2 0 [some (vI x0), some (vR 67 r1), some (vI x2), some (vI x3), none, none] [] h Q := by
  unfold W_J14_hashCode_2_0 at w
  refine jw_iload_n (pc' := 1) rfl rfl ?_
  refine jw_iload_n (pc' := 2) rfl rfl ?_
  refine jw_iadd (pc' := 3) rfl ?_
  refine jw_istore (pc' := 5) (ls' := [some (vI x0), some (vR 67 r1), some (vI x2), some (vI x3), some (vI (x2 + x3)), none]) rfl (by decide) rfl ?_
  refine jw_iload_n (pc' := 6) rfl rfl ?_
  refine jw_istore (pc' := 8) (ls' := [some (vI x0), some (vR 67 r1), some (vI x2), some (vI x3), some (vI (x2 + x3)), some (vI x2)]) rfl (by decide) rfl ?_
  refine jw_gen (ls' := [some (vI x0), some (vR 67 r1), none, none, some (vI (x2 + x3)), some (vI x2)]) (st' := []) (And.intro (Or.inl rfl) (And.intro (Or.inl rfl) (And.intro (Or.inl rfl) (And.intro (Or.inl rfl) (trivial))))) (trivial) ?_
  obtain ⟨n, w⟩ := w
  exact l_J14_hashCode_2_8 n _ _ _ _ _ w
def T_J14_hashCode_2 (D : JD) (d : Nat) (Q : JO → JH → Prop) (x0 : Int32) (r1 : Nat) (x2 : Int32) (x3 : Int32) (h : JH) : Prop := W_J14_hashCode_2_0 D d Q x0 r1 x2 x3 h
theorem t_J14_hashCode_2 {D : JD} {d : Nat} {Q : JO → JH → Prop} {x0 : Int32} {r1 : Nat} {x2 : Int32} {x3 : Int32} {h : JH} (w : T_J14_hashCode_2 D d Q x0 r1 x2 x3 h) : cJ14_hashCode_2 D (d + 1) x0 r1 x2 x3 h Q := by
  unfold T_J14_hashCode_2 at w
  unfold cJ14_hashCode_2
  exact w_J14_hashCode_2_0 w
def W_J14_hashCode_3_8 (D : JD) (d : Nat) (Q : JO → JH → Prop) (K8 : Int32 → Nat → Int32 → Int32 → JH → Prop) (x0 : Int32) (r1 : Nat) (x4 : Int32) (x5 : Int32) (h : JH) : Prop :=
  (x4 ≤ x5 → Q (.inl (some (vI x0))) h) ∧ (¬ x4 ≤ x5 → r1 ≠ 0 ∧ jin x5 (jln h r1) ∧ (K8 (((31 : Int32) * x0) + (jai h r1 (ixn x5))) r1 x4 (x5 + (1 : Int32)) h))
theorem w_J14_hashCode_3_8 {D : JD} {d : Nat} {Q : JO → JH → Prop} {K8 : Int32 → Nat → Int32 → Int32 → JH → Prop} {x0 : Int32} {r1 : Nat} {x4 : Int32} {x5 : Int32} {h : JH} (hK8 : ∀ (x0 : Int32) (r1 : Nat) (x4 : Int32) (x5 : Int32) (h : JH), K8 x0 r1 x4 x5 h → JW D (d + 1) mJ14_hashCode_3 8 [some (vI x0), some (vR 72 r1), none, none, some (vI x4), some (vI x5)] [] h Q) (w : W_J14_hashCode_3_8 D d Q K8 x0 r1 x4 x5 h) : JW D (d + 1) mJ14_hashCode_3 8 [some (vI x0), some (vR 72 r1), none, none, some (vI x4), some (vI x5)] [] h Q := by
  unfold W_J14_hashCode_3_8 at w
  refine jw_iload (pc' := 10) rfl rfl ?_
  refine jw_iload (pc' := 12) rfl rfl ?_
  refine jw_icmp_ge (tgt := 31) (pc' := 15) rfl rfl (fun c_1 => ?_) (fun c_1 => ?_)
  · replace w := w.1 c_1
    refine jw_iload_n (pc' := 32) rfl rfl ?_
    exact jw_ireturn rfl rfl (rfl) w
  · replace w := w.2 c_1
    refine jw_bipush (pc' := 17) (x := (31 : Int32)) rfl rfl ?_
    refine jw_iload_n (pc' := 18) rfl rfl ?_
    refine jw_imul (pc' := 19) rfl ?_
    refine jw_aload_n (pc' := 20) rfl rfl ?_
    refine jw_iload (pc' := 22) rfl rfl ?_
    obtain ⟨g_2, w⟩ := w
    obtain ⟨g_3, w⟩ := w
    refine jw_sald (pc' := 23) rfl rfl rfl rfl g_2 g_3.ix g_3.2 ?_
    refine jw_iadd (pc' := 24) rfl ?_
    refine jw_istore_n (pc' := 25) (ls' := [some (vI (((31 : Int32) * x0) + (jai h r1 (ixn x5)))), some (vR 72 r1), none, none, some (vI x4), some (vI x5)]) rfl (by decide) rfl ?_
    refine jw_iinc (pc' := 28) (y := x5 + (1 : Int32)) (ls' := [some (vI (((31 : Int32) * x0) + (jai h r1 (ixn x5)))), some (vR 72 r1), none, none, some (vI x4), some (vI (x5 + (1 : Int32)))]) rfl (by decide) rfl rfl rfl ?_
    refine jw_goto (pc' := 8) rfl rfl ?_
    exact hK8 _ _ _ _ _ w
def L_J14_hashCode_3_8 (D : JD) (d : Nat) (Q : JO → JH → Prop) : Nat → Int32 → Nat → Int32 → Int32 → JH → Prop
  | 0 => fun _ _ _ _ _ => False
  | n + 1 => fun x0 r1 x4 x5 h => W_J14_hashCode_3_8 D d Q (L_J14_hashCode_3_8 D d Q n) x0 r1 x4 x5 h
theorem l_J14_hashCode_3_8 {D : JD} {d : Nat} {Q : JO → JH → Prop} : ∀ (n : Nat) (x0 : Int32) (r1 : Nat) (x4 : Int32) (x5 : Int32) (h : JH), L_J14_hashCode_3_8 D d Q n x0 r1 x4 x5 h → JW D (d + 1) mJ14_hashCode_3 8 [some (vI x0), some (vR 72 r1), none, none, some (vI x4), some (vI x5)] [] h Q := by
  intro n
  induction n with
  | zero => intro _ _ _ _ _ w; exact w.elim
  | succ n ih => intro _ _ _ _ h w; exact w_J14_hashCode_3_8 ih w
def W_J14_hashCode_3_0 (D : JD) (d : Nat) (Q : JO → JH → Prop) (x0 : Int32) (r1 : Nat) (x2 : Int32) (x3 : Int32) (h : JH) : Prop :=
  ∃ n, L_J14_hashCode_3_8 D d Q n x0 r1 (x2 + x3) x2 h
theorem w_J14_hashCode_3_0 {D : JD} {d : Nat} {Q : JO → JH → Prop} {x0 : Int32} {r1 : Nat} {x2 : Int32} {x3 : Int32} {h : JH} (w : W_J14_hashCode_3_0 D d Q x0 r1 x2 x3 h) : JW D (d + 1) mJ14_hashCode_3 0 [some (vI x0), some (vR 72 r1), some (vI x2), some (vI x3), none, none] [] h Q := by
  unfold W_J14_hashCode_3_0 at w
  refine jw_iload_n (pc' := 1) rfl rfl ?_
  refine jw_iload_n (pc' := 2) rfl rfl ?_
  refine jw_iadd (pc' := 3) rfl ?_
  refine jw_istore (pc' := 5) (ls' := [some (vI x0), some (vR 72 r1), some (vI x2), some (vI x3), some (vI (x2 + x3)), none]) rfl (by decide) rfl ?_
  refine jw_iload_n (pc' := 6) rfl rfl ?_
  refine jw_istore (pc' := 8) (ls' := [some (vI x0), some (vR 72 r1), some (vI x2), some (vI x3), some (vI (x2 + x3)), some (vI x2)]) rfl (by decide) rfl ?_
  refine jw_gen (ls' := [some (vI x0), some (vR 72 r1), none, none, some (vI (x2 + x3)), some (vI x2)]) (st' := []) (And.intro (Or.inl rfl) (And.intro (Or.inl rfl) (And.intro (Or.inl rfl) (And.intro (Or.inl rfl) (trivial))))) (trivial) ?_
  obtain ⟨n, w⟩ := w
  exact l_J14_hashCode_3_8 n _ _ _ _ _ w
def T_J14_hashCode_3 (D : JD) (d : Nat) (Q : JO → JH → Prop) (x0 : Int32) (r1 : Nat) (x2 : Int32) (x3 : Int32) (h : JH) : Prop := W_J14_hashCode_3_0 D d Q x0 r1 x2 x3 h
theorem t_J14_hashCode_3 {D : JD} {d : Nat} {Q : JO → JH → Prop} {x0 : Int32} {r1 : Nat} {x2 : Int32} {x3 : Int32} {h : JH} (w : T_J14_hashCode_3 D d Q x0 r1 x2 x3 h) : cJ14_hashCode_3 D (d + 1) x0 r1 x2 x3 h Q := by
  unfold T_J14_hashCode_3 at w
  unfold cJ14_hashCode_3
  exact w_J14_hashCode_3_0 w
def W_J14_hashCode_4_8 (D : JD) (d : Nat) (Q : JO → JH → Prop) (K8 : Int32 → Nat → Int32 → Int32 → JH → Prop) (x0 : Int32) (r1 : Nat) (x4 : Int32) (x5 : Int32) (h : JH) : Prop :=
  (x4 ≤ x5 → Q (.inl (some (vI x0))) h) ∧ (¬ x4 ≤ x5 → r1 ≠ 0 ∧ jin x5 (jln h r1) ∧ (K8 (((31 : Int32) * x0) + (jai h r1 (ixn x5))) r1 x4 (x5 + (1 : Int32)) h))
theorem w_J14_hashCode_4_8 {D : JD} {d : Nat} {Q : JO → JH → Prop} {K8 : Int32 → Nat → Int32 → Int32 → JH → Prop} {x0 : Int32} {r1 : Nat} {x4 : Int32} {x5 : Int32} {h : JH} (hK8 : ∀ (x0 : Int32) (r1 : Nat) (x4 : Int32) (x5 : Int32) (h : JH), K8 x0 r1 x4 x5 h → JW D (d + 1) mJ14_hashCode_4 8 [some (vI x0), some (vR 68 r1), none, none, some (vI x4), some (vI x5)] [] h Q) (w : W_J14_hashCode_4_8 D d Q K8 x0 r1 x4 x5 h) : JW D (d + 1) mJ14_hashCode_4 8 [some (vI x0), some (vR 68 r1), none, none, some (vI x4), some (vI x5)] [] h Q := by
  unfold W_J14_hashCode_4_8 at w
  refine jw_iload (pc' := 10) rfl rfl ?_
  refine jw_iload (pc' := 12) rfl rfl ?_
  refine jw_icmp_ge (tgt := 31) (pc' := 15) rfl rfl (fun c_1 => ?_) (fun c_1 => ?_)
  · replace w := w.1 c_1
    refine jw_iload_n (pc' := 32) rfl rfl ?_
    exact jw_ireturn rfl rfl (rfl) w
  · replace w := w.2 c_1
    refine jw_bipush (pc' := 17) (x := (31 : Int32)) rfl rfl ?_
    refine jw_iload_n (pc' := 18) rfl rfl ?_
    refine jw_imul (pc' := 19) rfl ?_
    refine jw_aload_n (pc' := 20) rfl rfl ?_
    refine jw_iload (pc' := 22) rfl rfl ?_
    obtain ⟨g_2, w⟩ := w
    obtain ⟨g_3, w⟩ := w
    refine jw_iald (pc' := 23) rfl rfl rfl rfl g_2 g_3.ix g_3.2 ?_
    refine jw_iadd (pc' := 24) rfl ?_
    refine jw_istore_n (pc' := 25) (ls' := [some (vI (((31 : Int32) * x0) + (jai h r1 (ixn x5)))), some (vR 68 r1), none, none, some (vI x4), some (vI x5)]) rfl (by decide) rfl ?_
    refine jw_iinc (pc' := 28) (y := x5 + (1 : Int32)) (ls' := [some (vI (((31 : Int32) * x0) + (jai h r1 (ixn x5)))), some (vR 68 r1), none, none, some (vI x4), some (vI (x5 + (1 : Int32)))]) rfl (by decide) rfl rfl rfl ?_
    refine jw_goto (pc' := 8) rfl rfl ?_
    exact hK8 _ _ _ _ _ w
def L_J14_hashCode_4_8 (D : JD) (d : Nat) (Q : JO → JH → Prop) : Nat → Int32 → Nat → Int32 → Int32 → JH → Prop
  | 0 => fun _ _ _ _ _ => False
  | n + 1 => fun x0 r1 x4 x5 h => W_J14_hashCode_4_8 D d Q (L_J14_hashCode_4_8 D d Q n) x0 r1 x4 x5 h
theorem l_J14_hashCode_4_8 {D : JD} {d : Nat} {Q : JO → JH → Prop} : ∀ (n : Nat) (x0 : Int32) (r1 : Nat) (x4 : Int32) (x5 : Int32) (h : JH), L_J14_hashCode_4_8 D d Q n x0 r1 x4 x5 h → JW D (d + 1) mJ14_hashCode_4 8 [some (vI x0), some (vR 68 r1), none, none, some (vI x4), some (vI x5)] [] h Q := by
  intro n
  induction n with
  | zero => intro _ _ _ _ _ w; exact w.elim
  | succ n ih => intro _ _ _ _ h w; exact w_J14_hashCode_4_8 ih w
def W_J14_hashCode_4_0 (D : JD) (d : Nat) (Q : JO → JH → Prop) (x0 : Int32) (r1 : Nat) (x2 : Int32) (x3 : Int32) (h : JH) : Prop :=
  ∃ n, L_J14_hashCode_4_8 D d Q n x0 r1 (x2 + x3) x2 h
theorem w_J14_hashCode_4_0 {D : JD} {d : Nat} {Q : JO → JH → Prop} {x0 : Int32} {r1 : Nat} {x2 : Int32} {x3 : Int32} {h : JH} (w : W_J14_hashCode_4_0 D d Q x0 r1 x2 x3 h) : JW D (d + 1) mJ14_hashCode_4 0 [some (vI x0), some (vR 68 r1), some (vI x2), some (vI x3), none, none] [] h Q := by
  unfold W_J14_hashCode_4_0 at w
  refine jw_iload_n (pc' := 1) rfl rfl ?_
  refine jw_iload_n (pc' := 2) rfl rfl ?_
  refine jw_iadd (pc' := 3) rfl ?_
  refine jw_istore (pc' := 5) (ls' := [some (vI x0), some (vR 68 r1), some (vI x2), some (vI x3), some (vI (x2 + x3)), none]) rfl (by decide) rfl ?_
  refine jw_iload_n (pc' := 6) rfl rfl ?_
  refine jw_istore (pc' := 8) (ls' := [some (vI x0), some (vR 68 r1), some (vI x2), some (vI x3), some (vI (x2 + x3)), some (vI x2)]) rfl (by decide) rfl ?_
  refine jw_gen (ls' := [some (vI x0), some (vR 68 r1), none, none, some (vI (x2 + x3)), some (vI x2)]) (st' := []) (And.intro (Or.inl rfl) (And.intro (Or.inl rfl) (And.intro (Or.inl rfl) (And.intro (Or.inl rfl) (trivial))))) (trivial) ?_
  obtain ⟨n, w⟩ := w
  exact l_J14_hashCode_4_8 n _ _ _ _ _ w
def T_J14_hashCode_4 (D : JD) (d : Nat) (Q : JO → JH → Prop) (x0 : Int32) (r1 : Nat) (x2 : Int32) (x3 : Int32) (h : JH) : Prop := W_J14_hashCode_4_0 D d Q x0 r1 x2 x3 h
theorem t_J14_hashCode_4 {D : JD} {d : Nat} {Q : JO → JH → Prop} {x0 : Int32} {r1 : Nat} {x2 : Int32} {x3 : Int32} {h : JH} (w : T_J14_hashCode_4 D d Q x0 r1 x2 x3 h) : cJ14_hashCode_4 D (d + 1) x0 r1 x2 x3 h Q := by
  unfold T_J14_hashCode_4 at w
  unfold cJ14_hashCode_4
  exact w_J14_hashCode_4_0 w
def W_J14_mismatch_70 (D : JD) (d : Nat) (Q : JO → JH → Prop) (K70 : Nat → Int32 → Nat → Int32 → Int32 → Int32 → JH → Prop) (r0 : Nat) (x1 : Int32) (r2 : Nat) (x3 : Int32) (x4 : Int32) (x5 : Int32) (h : JH) : Prop :=
  (x4 ≤ x5 → Q (.inl (some (vI (-1 : Int32)))) h) ∧ (¬ x4 ≤ x5 → r0 ≠ 0 ∧ jin (x1 + x5) (jln h r0) ∧ (r2 ≠ 0 ∧ jin (x3 + x5) (jln h r2) ∧ (((jai h r0 (ixn (x1 + x5))) = (jai h r2 (ixn (x3 + x5))) → K70 r0 x1 r2 x3 x4 (x5 + (1 : Int32)) h) ∧ (¬ (jai h r0 (ixn (x1 + x5))) = (jai h r2 (ixn (x3 + x5))) → Q (.inl (some (vI x5))) h))))
theorem w_J14_mismatch_70 {D : JD} {d : Nat} {Q : JO → JH → Prop} {K70 : Nat → Int32 → Nat → Int32 → Int32 → Int32 → JH → Prop} {r0 : Nat} {x1 : Int32} {r2 : Nat} {x3 : Int32} {x4 : Int32} {x5 : Int32} {h : JH} (hK70 : ∀ (r0 : Nat) (x1 : Int32) (r2 : Nat) (x3 : Int32) (x4 : Int32) (x5 : Int32) (h : JH), K70 r0 x1 r2 x3 x4 x5 h → JW D (d + 1) mJ14_mismatch 70 [some (vR 67 r0), some (vI x1), some (vR 67 r2), some (vI x3), some (vI x4), some (vI x5), none, none] [] h Q) (w : W_J14_mismatch_70 D d Q K70 r0 x1 r2 x3 x4 x5 h) : JW D (d + 1) mJ14_mismatch 70 [some (vR 67 r0), some (vI x1), some (vR 67 r2), some (vI x3), some (vI x4), some (vI x5), none, none] [] h Q := by
  unfold W_J14_mismatch_70 at w
  refine jw_iload (pc' := 72) rfl rfl ?_
  refine jw_iload (pc' := 74) rfl rfl ?_
  refine jw_icmp_ge (tgt := 101) (pc' := 77) rfl rfl (fun c_1 => ?_) (fun c_1 => ?_)
  · replace w := w.1 c_1
    refine jw_iconst (pc' := 102) (x := (-1 : Int32)) rfl rfl ?_
    exact jw_ireturn rfl rfl (rfl) w
  · replace w := w.2 c_1
    refine jw_aload_n (pc' := 78) rfl rfl ?_
    refine jw_iload_n (pc' := 79) rfl rfl ?_
    refine jw_iload (pc' := 81) rfl rfl ?_
    refine jw_iadd (pc' := 82) rfl ?_
    obtain ⟨g_2, w⟩ := w
    obtain ⟨g_3, w⟩ := w
    refine jw_bald (pc' := 83) rfl rfl rfl rfl g_2 g_3.ix g_3.2 ?_
    refine jw_aload_n (pc' := 84) rfl rfl ?_
    refine jw_iload_n (pc' := 85) rfl rfl ?_
    refine jw_iload (pc' := 87) rfl rfl ?_
    refine jw_iadd (pc' := 88) rfl ?_
    obtain ⟨g_4, w⟩ := w
    obtain ⟨g_5, w⟩ := w
    refine jw_bald (pc' := 89) rfl rfl rfl rfl g_4 g_5.ix g_5.2 ?_
    refine jw_icmp_eq (tgt := 95) (pc' := 92) rfl rfl (fun c_6 => ?_) (fun c_6 => ?_)
    · replace w := w.1 c_6
      refine jw_iinc (pc' := 98) (y := x5 + (1 : Int32)) (ls' := [some (vR 67 r0), some (vI x1), some (vR 67 r2), some (vI x3), some (vI x4), some (vI (x5 + (1 : Int32))), none, none]) rfl (by decide) rfl rfl rfl ?_
      refine jw_goto (pc' := 70) rfl rfl ?_
      exact hK70 _ _ _ _ _ _ _ w
    · replace w := w.2 c_6
      refine jw_iload (pc' := 94) rfl rfl ?_
      exact jw_ireturn rfl rfl (rfl) w
def L_J14_mismatch_70 (D : JD) (d : Nat) (Q : JO → JH → Prop) : Nat → Nat → Int32 → Nat → Int32 → Int32 → Int32 → JH → Prop
  | 0 => fun _ _ _ _ _ _ _ => False
  | n + 1 => fun r0 x1 r2 x3 x4 x5 h => W_J14_mismatch_70 D d Q (L_J14_mismatch_70 D d Q n) r0 x1 r2 x3 x4 x5 h
theorem l_J14_mismatch_70 {D : JD} {d : Nat} {Q : JO → JH → Prop} : ∀ (n : Nat) (r0 : Nat) (x1 : Int32) (r2 : Nat) (x3 : Int32) (x4 : Int32) (x5 : Int32) (h : JH), L_J14_mismatch_70 D d Q n r0 x1 r2 x3 x4 x5 h → JW D (d + 1) mJ14_mismatch 70 [some (vR 67 r0), some (vI x1), some (vR 67 r2), some (vI x3), some (vI x4), some (vI x5), none, none] [] h Q := by
  intro n
  induction n with
  | zero => intro _ _ _ _ _ _ _ w; exact w.elim
  | succ n ih => intro _ _ _ _ _ _ h w; exact w_J14_mismatch_70 ih w
def W_J14_mismatch_0 (D : JD) (d : Nat) (Q : JO → JH → Prop) (r0 : Nat) (x1 : Int32) (r2 : Nat) (x3 : Int32) (x4 : Int32) (h : JH) : Prop :=
  (x4 ≤ (7 : Int32) → ∃ n, L_J14_mismatch_70 D d Q n r0 x1 r2 x3 x4 (0 : Int32) h) ∧ (¬ x4 ≤ (7 : Int32) → r0 ≠ 0 ∧ jin x1 (jln h r0) ∧ (r2 ≠ 0 ∧ jin x3 (jln h r2) ∧ (((jai h r0 (ixn x1)) = (jai h r2 (ixn x3)) → False) ∧ (¬ (jai h r0 (ixn x1)) = (jai h r2 (ixn x3)) → Q (.inl (some (vI (0 : Int32)))) h))))
theorem w_J14_mismatch_0 {D : JD} {d : Nat} {Q : JO → JH → Prop} {r0 : Nat} {x1 : Int32} {r2 : Nat} {x3 : Int32} {x4 : Int32} {h : JH} (w : W_J14_mismatch_0 D d Q r0 x1 r2 x3 x4 h) : JW D (d + 1) mJ14_mismatch 0 [some (vR 67 r0), some (vI x1), some (vR 67 r2), some (vI x3), some (vI x4), none, none, none] [] h Q := by
  unfold W_J14_mismatch_0 at w
  refine jw_iconst (pc' := 1) (x := (0 : Int32)) rfl rfl ?_
  refine jw_istore (pc' := 3) (ls' := [some (vR 67 r0), some (vI x1), some (vR 67 r2), some (vI x3), some (vI x4), some (vI (0 : Int32)), none, none]) rfl (by decide) rfl ?_
  refine jw_iload (pc' := 5) rfl rfl ?_
  refine jw_bipush (pc' := 7) (x := (7 : Int32)) rfl rfl ?_
  refine jw_icmp_le (tgt := 70) (pc' := 10) rfl rfl (fun c_1 => ?_) (fun c_1 => ?_)
  · replace w := w.1 c_1
    obtain ⟨n, w⟩ := w
    exact l_J14_mismatch_70 n _ _ _ _ _ _ _ w
  · replace w := w.2 c_1
    refine jw_aload_n (pc' := 11) rfl rfl ?_
    refine jw_iload_n (pc' := 12) rfl rfl ?_
    obtain ⟨g_2, w⟩ := w
    obtain ⟨g_3, w⟩ := w
    refine jw_bald (pc' := 13) rfl rfl rfl rfl g_2 g_3.ix g_3.2 ?_
    refine jw_aload_n (pc' := 14) rfl rfl ?_
    refine jw_iload_n (pc' := 15) rfl rfl ?_
    obtain ⟨g_4, w⟩ := w
    obtain ⟨g_5, w⟩ := w
    refine jw_bald (pc' := 16) rfl rfl rfl rfl g_4 g_5.ix g_5.2 ?_
    refine jw_icmp_eq (tgt := 21) (pc' := 19) rfl rfl (fun c_6 => ?_) (fun c_6 => ?_)
    · replace w := w.1 c_6
      exact w.elim
    · replace w := w.2 c_6
      refine jw_iconst (pc' := 20) (x := (0 : Int32)) rfl rfl ?_
      exact jw_ireturn rfl rfl (rfl) w
def T_J14_mismatch (D : JD) (d : Nat) (Q : JO → JH → Prop) (r0 : Nat) (x1 : Int32) (r2 : Nat) (x3 : Int32) (x4 : Int32) (h : JH) : Prop := W_J14_mismatch_0 D d Q r0 x1 r2 x3 x4 h
theorem t_J14_mismatch {D : JD} {d : Nat} {Q : JO → JH → Prop} {r0 : Nat} {x1 : Int32} {r2 : Nat} {x3 : Int32} {x4 : Int32} {h : JH} (w : T_J14_mismatch D d Q r0 x1 r2 x3 x4 h) : cJ14_mismatch D (d + 1) r0 x1 r2 x3 x4 h Q := by
  unfold T_J14_mismatch at w
  unfold cJ14_mismatch
  exact w_J14_mismatch_0 w
def W_J15_max_10 (D : JD) (d : Nat) (Q : JO → JH → Prop) (s0 : Int32) (h : JH) : Prop :=
  Q (.inl (some (vI s0))) h
theorem w_J15_max_10 {D : JD} {d : Nat} {Q : JO → JH → Prop} {s0 : Int32} {h : JH} (w : W_J15_max_10 D d Q s0 h) : JW D (d + 1) mJ15_max 10 [none, none] [vI s0] h Q := by
  unfold W_J15_max_10 at w
  exact jw_ireturn rfl rfl (rfl) w
def W_J15_max_0 (D : JD) (d : Nat) (Q : JO → JH → Prop) (x0 : Int32) (x1 : Int32) (h : JH) : Prop :=
  (x0 < x1 → W_J15_max_10 D d Q x1 h) ∧ (¬ x0 < x1 → W_J15_max_10 D d Q x0 h)
theorem w_J15_max_0 {D : JD} {d : Nat} {Q : JO → JH → Prop} {x0 : Int32} {x1 : Int32} {h : JH} (w : W_J15_max_0 D d Q x0 x1 h) : JW D (d + 1) mJ15_max 0 [some (vI x0), some (vI x1)] [] h Q := by
  unfold W_J15_max_0 at w
  refine jw_iload_n (pc' := 1) rfl rfl ?_
  refine jw_iload_n (pc' := 2) rfl rfl ?_
  refine jw_icmp_lt (tgt := 9) (pc' := 5) rfl rfl (fun c_1 => ?_) (fun c_1 => ?_)
  · replace w := w.1 c_1
    refine jw_iload_n (pc' := 10) rfl rfl ?_
    refine jw_gen (ls' := [none, none]) (st' := [vI x1]) (trivial) (And.intro (Or.inl rfl) (trivial)) ?_
    exact w_J15_max_10 w
  · replace w := w.2 c_1
    refine jw_iload_n (pc' := 6) rfl rfl ?_
    refine jw_goto (pc' := 10) rfl rfl ?_
    refine jw_gen (ls' := [none, none]) (st' := [vI x0]) (trivial) (And.intro (Or.inl rfl) (trivial)) ?_
    exact w_J15_max_10 w
def T_J15_max (D : JD) (d : Nat) (Q : JO → JH → Prop) (x0 : Int32) (x1 : Int32) (h : JH) : Prop := W_J15_max_0 D d Q x0 x1 h
theorem t_J15_max {D : JD} {d : Nat} {Q : JO → JH → Prop} {x0 : Int32} {x1 : Int32} {h : JH} (w : T_J15_max D d Q x0 x1 h) : cJ15_max D (d + 1) x0 x1 h Q := by
  unfold T_J15_max at w
  unfold cJ15_max
  exact w_J15_max_0 w
def W_J15_min_10 (D : JD) (d : Nat) (Q : JO → JH → Prop) (s0 : Int32) (h : JH) : Prop :=
  Q (.inl (some (vI s0))) h
theorem w_J15_min_10 {D : JD} {d : Nat} {Q : JO → JH → Prop} {s0 : Int32} {h : JH} (w : W_J15_min_10 D d Q s0 h) : JW D (d + 1) mJ15_min 10 [none, none] [vI s0] h Q := by
  unfold W_J15_min_10 at w
  exact jw_ireturn rfl rfl (rfl) w
def W_J15_min_0 (D : JD) (d : Nat) (Q : JO → JH → Prop) (x0 : Int32) (x1 : Int32) (h : JH) : Prop :=
  (x1 < x0 → W_J15_min_10 D d Q x1 h) ∧ (¬ x1 < x0 → W_J15_min_10 D d Q x0 h)
theorem w_J15_min_0 {D : JD} {d : Nat} {Q : JO → JH → Prop} {x0 : Int32} {x1 : Int32} {h : JH} (w : W_J15_min_0 D d Q x0 x1 h) : JW D (d + 1) mJ15_min 0 [some (vI x0), some (vI x1)] [] h Q := by
  unfold W_J15_min_0 at w
  refine jw_iload_n (pc' := 1) rfl rfl ?_
  refine jw_iload_n (pc' := 2) rfl rfl ?_
  refine jw_icmp_gt (tgt := 9) (pc' := 5) rfl rfl (fun c_1 => ?_) (fun c_1 => ?_)
  · replace w := w.1 c_1
    refine jw_iload_n (pc' := 10) rfl rfl ?_
    refine jw_gen (ls' := [none, none]) (st' := [vI x1]) (trivial) (And.intro (Or.inl rfl) (trivial)) ?_
    exact w_J15_min_10 w
  · replace w := w.2 c_1
    refine jw_iload_n (pc' := 6) rfl rfl ?_
    refine jw_goto (pc' := 10) rfl rfl ?_
    refine jw_gen (ls' := [none, none]) (st' := [vI x0]) (trivial) (And.intro (Or.inl rfl) (trivial)) ?_
    exact w_J15_min_10 w
def T_J15_min (D : JD) (d : Nat) (Q : JO → JH → Prop) (x0 : Int32) (x1 : Int32) (h : JH) : Prop := W_J15_min_0 D d Q x0 x1 h
theorem t_J15_min {D : JD} {d : Nat} {Q : JO → JH → Prop} {x0 : Int32} {x1 : Int32} {h : JH} (w : T_J15_min D d Q x0 x1 h) : cJ15_min D (d + 1) x0 x1 h Q := by
  unfold T_J15_min at w
  unfold cJ15_min
  exact w_J15_min_0 w
def W_J15_min_2_11 (D : JD) (d : Nat) (Q : JO → JH → Prop) (t0 : Int64) (h : JH) : Prop :=
  Q (.inl (some (vL t0))) h
theorem w_J15_min_2_11 {D : JD} {d : Nat} {Q : JO → JH → Prop} {t0 : Int64} {h : JH} (w : W_J15_min_2_11 D d Q t0 h) : JW D (d + 1) mJ15_min_2 11 [none, none, none, none] [vL t0] h Q := by
  unfold W_J15_min_2_11 at w
  exact jw_lreturn rfl rfl w
def W_J15_min_2_0 (D : JD) (d : Nat) (Q : JO → JH → Prop) (y0 : Int64) (y2 : Int64) (h : JH) : Prop :=
  (0 < (lg_cmp y0 y2) → W_J15_min_2_11 D d Q y2 h) ∧ (¬ 0 < (lg_cmp y0 y2) → W_J15_min_2_11 D d Q y0 h)
theorem w_J15_min_2_0 {D : JD} {d : Nat} {Q : JO → JH → Prop} {y0 : Int64} {y2 : Int64} {h : JH} (w : W_J15_min_2_0 D d Q y0 y2 h) : JW D (d + 1) mJ15_min_2 0 [some (vL y0), none, some (vL y2), none] [] h Q := by
  unfold W_J15_min_2_0 at w
  refine jw_lload_n (pc' := 1) rfl rfl ?_
  refine jw_lload_n (pc' := 2) rfl rfl ?_
  refine jw_lcmp (pc' := 3) rfl ?_
  refine jw_if_gt (tgt := 10) (pc' := 6) rfl rfl (fun c_1 => ?_) (fun c_1 => ?_)
  · replace w := w.1 c_1
    refine jw_lload_n (pc' := 11) rfl rfl ?_
    refine jw_gen (ls' := [none, none, none, none]) (st' := [vL y2]) (trivial) (And.intro (Or.inl rfl) (trivial)) ?_
    exact w_J15_min_2_11 w
  · replace w := w.2 c_1
    refine jw_lload_n (pc' := 7) rfl rfl ?_
    refine jw_goto (pc' := 11) rfl rfl ?_
    refine jw_gen (ls' := [none, none, none, none]) (st' := [vL y0]) (trivial) (And.intro (Or.inl rfl) (trivial)) ?_
    exact w_J15_min_2_11 w
def T_J15_min_2 (D : JD) (d : Nat) (Q : JO → JH → Prop) (y0 : Int64) (y2 : Int64) (h : JH) : Prop := W_J15_min_2_0 D d Q y0 y2 h
theorem t_J15_min_2 {D : JD} {d : Nat} {Q : JO → JH → Prop} {y0 : Int64} {y2 : Int64} {h : JH} (w : T_J15_min_2 D d Q y0 y2 h) : cJ15_min_2 D (d + 1) y0 y2 h Q := by
  unfold T_J15_min_2 at w
  unfold cJ15_min_2
  exact w_J15_min_2_0 w
def W_J15_abs_12 (D : JD) (d : Nat) (Q : JO → JH → Prop) (t0 : Int64) (h : JH) : Prop :=
  Q (.inl (some (vL t0))) h
theorem w_J15_abs_12 {D : JD} {d : Nat} {Q : JO → JH → Prop} {t0 : Int64} {h : JH} (w : W_J15_abs_12 D d Q t0 h) : JW D (d + 1) mJ15_abs 12 [none, none] [vL t0] h Q := by
  unfold W_J15_abs_12 at w
  exact jw_lreturn rfl rfl w
def W_J15_abs_0 (D : JD) (d : Nat) (Q : JO → JH → Prop) (y0 : Int64) (h : JH) : Prop :=
  (0 ≤ (lg_cmp y0 (0 : Int64)) → W_J15_abs_12 D d Q y0 h) ∧ (¬ 0 ≤ (lg_cmp y0 (0 : Int64)) → W_J15_abs_12 D d Q (-y0) h)
theorem w_J15_abs_0 {D : JD} {d : Nat} {Q : JO → JH → Prop} {y0 : Int64} {h : JH} (w : W_J15_abs_0 D d Q y0 h) : JW D (d + 1) mJ15_abs 0 [some (vL y0), none] [] h Q := by
  unfold W_J15_abs_0 at w
  refine jw_lload_n (pc' := 1) rfl rfl ?_
  refine jw_lconst (pc' := 2) (x := (0 : Int64)) rfl rfl ?_
  refine jw_lcmp (pc' := 3) rfl ?_
  refine jw_if_ge (tgt := 11) (pc' := 6) rfl rfl (fun c_1 => ?_) (fun c_1 => ?_)
  · replace w := w.1 c_1
    refine jw_lload_n (pc' := 12) rfl rfl ?_
    refine jw_gen (ls' := [none, none]) (st' := [vL y0]) (trivial) (And.intro (Or.inl rfl) (trivial)) ?_
    exact w_J15_abs_12 w
  · replace w := w.2 c_1
    refine jw_lload_n (pc' := 7) rfl rfl ?_
    refine jw_lneg (pc' := 8) rfl ?_
    refine jw_goto (pc' := 12) rfl rfl ?_
    refine jw_gen (ls' := [none, none]) (st' := [vL (-y0)]) (trivial) (And.intro (Or.inl rfl) (trivial)) ?_
    exact w_J15_abs_12 w
def T_J15_abs (D : JD) (d : Nat) (Q : JO → JH → Prop) (y0 : Int64) (h : JH) : Prop := W_J15_abs_0 D d Q y0 h
theorem t_J15_abs {D : JD} {d : Nat} {Q : JO → JH → Prop} {y0 : Int64} {h : JH} (w : T_J15_abs D d Q y0 h) : cJ15_abs D (d + 1) y0 h Q := by
  unfold T_J15_abs at w
  unfold cJ15_abs
  exact w_J15_abs_0 w
def W_J15_max_2_11 (D : JD) (d : Nat) (Q : JO → JH → Prop) (t0 : Int64) (h : JH) : Prop :=
  Q (.inl (some (vL t0))) h
theorem w_J15_max_2_11 {D : JD} {d : Nat} {Q : JO → JH → Prop} {t0 : Int64} {h : JH} (w : W_J15_max_2_11 D d Q t0 h) : JW D (d + 1) mJ15_max_2 11 [none, none, none, none] [vL t0] h Q := by
  unfold W_J15_max_2_11 at w
  exact jw_lreturn rfl rfl w
def W_J15_max_2_0 (D : JD) (d : Nat) (Q : JO → JH → Prop) (y0 : Int64) (y2 : Int64) (h : JH) : Prop :=
  ((lg_cmp y0 y2) < 0 → W_J15_max_2_11 D d Q y2 h) ∧ (¬ (lg_cmp y0 y2) < 0 → W_J15_max_2_11 D d Q y0 h)
theorem w_J15_max_2_0 {D : JD} {d : Nat} {Q : JO → JH → Prop} {y0 : Int64} {y2 : Int64} {h : JH} (w : W_J15_max_2_0 D d Q y0 y2 h) : JW D (d + 1) mJ15_max_2 0 [some (vL y0), none, some (vL y2), none] [] h Q := by
  unfold W_J15_max_2_0 at w
  refine jw_lload_n (pc' := 1) rfl rfl ?_
  refine jw_lload_n (pc' := 2) rfl rfl ?_
  refine jw_lcmp (pc' := 3) rfl ?_
  refine jw_if_lt (tgt := 10) (pc' := 6) rfl rfl (fun c_1 => ?_) (fun c_1 => ?_)
  · replace w := w.1 c_1
    refine jw_lload_n (pc' := 11) rfl rfl ?_
    refine jw_gen (ls' := [none, none, none, none]) (st' := [vL y2]) (trivial) (And.intro (Or.inl rfl) (trivial)) ?_
    exact w_J15_max_2_11 w
  · replace w := w.2 c_1
    refine jw_lload_n (pc' := 7) rfl rfl ?_
    refine jw_goto (pc' := 11) rfl rfl ?_
    refine jw_gen (ls' := [none, none, none, none]) (st' := [vL y0]) (trivial) (And.intro (Or.inl rfl) (trivial)) ?_
    exact w_J15_max_2_11 w
def T_J15_max_2 (D : JD) (d : Nat) (Q : JO → JH → Prop) (y0 : Int64) (y2 : Int64) (h : JH) : Prop := W_J15_max_2_0 D d Q y0 y2 h
theorem t_J15_max_2 {D : JD} {d : Nat} {Q : JO → JH → Prop} {y0 : Int64} {y2 : Int64} {h : JH} (w : T_J15_max_2 D d Q y0 y2 h) : cJ15_max_2 D (d + 1) y0 y2 h Q := by
  unfold T_J15_max_2 at w
  unfold cJ15_max_2
  exact w_J15_max_2_0 w
def W_J16_copyOf_0 (D : JD) (d : Nat) (Q : JO → JH → Prop) (r0 : Nat) (x1 : Int32) (h : JH) : Prop :=
  r0 ≠ 0 ∧ ((¬ x1 = (nI (jln h r0)) → jsm x1 ∧ ∀ (r_3 : Nat) (h_4 : JH), r_3 = jsz h + 1 → h_4 = nwa h 220 (ixn x1) → (cJ15_min D d (nI (jln h_4 r0)) x1 h_4 (pI D h_4 (fun v_10 h_8 => jcpy h_8 r0 (0 : Int32) r_3 (0 : Int32) v_10 ∧ ∀ h_12 : JH, h_12 = cpa h_8 r0 (ixn (0 : Int32)) r_3 (ixn (0 : Int32)) (ixn v_10) → (Q (.inl (some (vR 67 r_3))) h_12)) (jth Q)))) ∧ (x1 = (nI (jln h r0)) → (∀ i, i < jln h r0 → fits .byte (.int (jai h r0 i)) = true) ∧ ∀ (r_15 : Nat) (h_16 : JH), r_15 = jsz h + 1 → h_16 = cpa (nwa h 219 (jln h r0)) r0 0 (jsz h + 1) 0 (jln h r0) → (Q (.inl (some (vR 67 r_15))) h_16)))
theorem w_J16_copyOf_0 {D : JD} {d : Nat} {Q : JO → JH → Prop} {r0 : Nat} {x1 : Int32} {h : JH} (w : W_J16_copyOf_0 D d Q r0 x1 h) : JW D (d + 1) mJ16_copyOf 0 [some (vR 67 r0), some (vI x1), none] [] h Q := by
  unfold W_J16_copyOf_0 at w
  refine jw_iload_n (pc' := 1) rfl rfl ?_
  refine jw_aload_n (pc' := 2) rfl rfl ?_
  obtain ⟨g_1, w⟩ := w
  refine jw_alen (pc' := 3) rfl rfl g_1 ?_
  refine jw_icmp_ne (tgt := 14) (pc' := 6) rfl rfl (fun c_2 => ?_) (fun c_2 => ?_)
  · replace w := w.1 c_2
    refine jw_iload_n (pc' := 15) rfl rfl ?_
    obtain ⟨g_7, w⟩ := w
    refine jw_newa' (pc' := 17) (n := ixn x1) (k := 220) rfl rfl rfl rfl rfl rfl (lw_g (jtb_mem (c := 1) (i := 105) rfl) rfl) g_7.ix g_7.b1 (fun r_3 h_4 e_5 e_6 => ?_)
    replace w := w r_3 h_4 e_5 e_6
    refine jw_astore_n (pc' := 18) (ls' := [some (vR 67 r0), some (vI x1), some (vR 220 r_3)]) rfl (by decide) rfl ?_
    refine jw_aload_n (pc' := 19) rfl rfl ?_
    refine jw_iconst (pc' := 20) (x := (0 : Int32)) rfl rfl ?_
    refine jw_aload_n (pc' := 21) rfl rfl ?_
    refine jw_iconst (pc' := 22) (x := (0 : Int32)) rfl rfl ?_
    refine jw_aload_n (pc' := 23) rfl rfl ?_
    refine jw_alen (pc' := 24) rfl rfl g_1 ?_
    refine jw_iload_n (pc' := 25) rfl rfl ?_
    refine jw_cI (st := [vI (0 : Int32), vR 220 r_3, vI (0 : Int32), vR 67 r0]) (sa := [vI (nI (jln h_4 r0)), vI x1]) okJ15_min rfl rfl rfl rfl rfl rfl (jstp_static (sa := [vI (nI (jln h_4 r0)), vI x1]) (st := [vI (0 : Int32), vR 220 r_3, vI (0 : Int32), vR 67 r0]) rfl rfl sJ15_min okJ15_min rfl rfl) w (fun v_10 h_8 _ _ w => ?_)
    obtain ⟨g_11, w⟩ := w
    refine jw_acopy' (pc' := 31) rfl (lw_g (jtb_mem (c := 3) (i := 200) rfl) rfl) rfl g_1 (jnz e_5) g_11 (fun h_12 e_13 => ?_)
    replace w := w h_12 e_13
    refine jw_aload_n (pc' := 32) rfl rfl ?_
    exact jw_areturn rfl rfl rfl rfl rfl w
  · replace w := w.2 c_2
    refine jw_aload_n (pc' := 7) rfl rfl ?_
    obtain ⟨g_14, w⟩ := w
    refine jw_clone (pc' := 10) rfl (lw_g (jtb_mem (c := 3) (i := 190) rfl) rfl) rfl rfl rfl g_1 g_14 (fun r_15 h_16 e_17 e_18 => ?_)
    replace w := w r_15 h_16 e_17 e_18
    refine jw_castA (pc' := 13) rfl rfl rfl rfl rfl (jnz e_17) ?_
    exact jw_areturn rfl rfl rfl rfl rfl w
def T_J16_copyOf (D : JD) (d : Nat) (Q : JO → JH → Prop) (r0 : Nat) (x1 : Int32) (h : JH) : Prop := W_J16_copyOf_0 D d Q r0 x1 h
theorem t_J16_copyOf {D : JD} {d : Nat} {Q : JO → JH → Prop} {r0 : Nat} {x1 : Int32} {h : JH} (w : T_J16_copyOf D d Q r0 x1 h) : cJ16_copyOf D (d + 1) r0 x1 h Q := by
  unfold T_J16_copyOf at w
  unfold cJ16_copyOf
  exact w_J16_copyOf_0 w
def W_J16_copyOfRange_10 (D : JD) (d : Nat) (Q : JO → JH → Prop) (r0 : Nat) (x1 : Int32) (x2 : Int32) (h : JH) : Prop :=
  cJ16_copyOfRangeByte D d r0 x1 x2 h (pR D h 67 (fun v_3 h_1 => Q (.inl (some (vR 67 v_3))) h_1) (jth Q))
theorem w_J16_copyOfRange_10 {D : JD} {d : Nat} {Q : JO → JH → Prop} {r0 : Nat} {x1 : Int32} {x2 : Int32} {h : JH} (w : W_J16_copyOfRange_10 D d Q r0 x1 x2 h) : JW D (d + 1) mJ16_copyOfRange 10 [some (vR 67 r0), some (vI x1), some (vI x2)] [] h Q := by
  unfold W_J16_copyOfRange_10 at w
  refine jw_aload_n (pc' := 11) rfl rfl ?_
  refine jw_iload_n (pc' := 12) rfl rfl ?_
  refine jw_iload_n (pc' := 13) rfl rfl ?_
  refine jw_cR (st := []) (sa := [vR 67 r0, vI x1, vI x2]) okJ16_copyOfRangeByte rfl rfl rfl rfl rfl rfl (jstp_static (sa := [vR 67 r0, vI x1, vI x2]) (st := []) rfl rfl sJ16_copyOfRangeByte okJ16_copyOfRangeByte rfl rfl) w (fun v_3 h_1 _ _ _ w => ?_)
  exact jw_areturn rfl rfl rfl rfl rfl w
def W_J16_copyOfRange_0 (D : JD) (d : Nat) (Q : JO → JH → Prop) (r0 : Nat) (x1 : Int32) (x2 : Int32) (h : JH) : Prop :=
  (¬ x1 = 0 → W_J16_copyOfRange_10 D d Q r0 x1 x2 h) ∧ (x1 = 0 → r0 ≠ 0 ∧ ((x2 = (nI (jln h r0)) → (∀ i, i < jln h r0 → fits .byte (.int (jai h r0 i)) = true) ∧ ∀ (r_5 : Nat) (h_6 : JH), r_5 = jsz h + 1 → h_6 = cpa (nwa h 219 (jln h r0)) r0 0 (jsz h + 1) 0 (jln h r0) → (Q (.inl (some (vR 67 r_5))) h_6)) ∧ (¬ x2 = (nI (jln h r0)) → W_J16_copyOfRange_10 D d Q r0 x1 x2 h)))
theorem w_J16_copyOfRange_0 {D : JD} {d : Nat} {Q : JO → JH → Prop} {r0 : Nat} {x1 : Int32} {x2 : Int32} {h : JH} (w : W_J16_copyOfRange_0 D d Q r0 x1 x2 h) : JW D (d + 1) mJ16_copyOfRange 0 [some (vR 67 r0), some (vI x1), some (vI x2)] [] h Q := by
  unfold W_J16_copyOfRange_0 at w
  refine jw_iload_n (pc' := 1) rfl rfl ?_
  refine jw_if_ne (tgt := 10) (pc' := 4) rfl rfl (fun c_1 => ?_) (fun c_1 => ?_)
  · replace w := w.1 c_1
    exact w_J16_copyOfRange_10 w
  · replace w := w.2 c_1
    refine jw_iload_n (pc' := 5) rfl rfl ?_
    refine jw_aload_n (pc' := 6) rfl rfl ?_
    obtain ⟨g_2, w⟩ := w
    refine jw_alen (pc' := 7) rfl rfl g_2 ?_
    refine jw_icmp_eq (tgt := 17) (pc' := 10) rfl rfl (fun c_3 => ?_) (fun c_3 => ?_)
    · replace w := w.1 c_3
      refine jw_aload_n (pc' := 18) rfl rfl ?_
      obtain ⟨g_4, w⟩ := w
      refine jw_clone (pc' := 21) rfl (lw_g (jtb_mem (c := 3) (i := 190) rfl) rfl) rfl rfl rfl g_2 g_4 (fun r_5 h_6 e_7 e_8 => ?_)
      replace w := w r_5 h_6 e_7 e_8
      refine jw_castA (pc' := 24) rfl rfl rfl rfl rfl (jnz e_7) ?_
      exact jw_areturn rfl rfl rfl rfl rfl w
    · replace w := w.2 c_3
      exact w_J16_copyOfRange_10 w
def T_J16_copyOfRange (D : JD) (d : Nat) (Q : JO → JH → Prop) (r0 : Nat) (x1 : Int32) (x2 : Int32) (h : JH) : Prop := W_J16_copyOfRange_0 D d Q r0 x1 x2 h
theorem t_J16_copyOfRange {D : JD} {d : Nat} {Q : JO → JH → Prop} {r0 : Nat} {x1 : Int32} {x2 : Int32} {h : JH} (w : T_J16_copyOfRange D d Q r0 x1 x2 h) : cJ16_copyOfRange D (d + 1) r0 x1 x2 h Q := by
  unfold T_J16_copyOfRange at w
  unfold cJ16_copyOfRange
  exact w_J16_copyOfRange_0 w
def W_J16_copyOfRangeByte_0 (D : JD) (d : Nat) (Q : JO → JH → Prop) (r0 : Nat) (x1 : Int32) (x2 : Int32) (h : JH) : Prop :=
  cJ16_checkLength D d x1 x2 h (pV D h (fun h_1 => jsm (x2 - x1) ∧ ∀ (r_4 : Nat) (h_5 : JH), r_4 = jsz h_1 + 1 → h_5 = nwa h_1 219 (ixn (x2 - x1)) → (r0 ≠ 0 ∧ (cJ15_min D d ((nI (jln h_5 r0)) - x1) (x2 - x1) h_5 (pI D h_5 (fun v_12 h_10 => jcpy h_10 r0 x1 r_4 (0 : Int32) v_12 ∧ ∀ h_14 : JH, h_14 = cpa h_10 r0 (ixn x1) r_4 (ixn (0 : Int32)) (ixn v_12) → (Q (.inl (some (vR 67 r_4))) h_14)) (jth Q))))) (jth Q))
theorem w_J16_copyOfRangeByte_0 {D : JD} {d : Nat} {Q : JO → JH → Prop} {r0 : Nat} {x1 : Int32} {x2 : Int32} {h : JH} (w : W_J16_copyOfRangeByte_0 D d Q r0 x1 x2 h) : JW D (d + 1) mJ16_copyOfRangeByte 0 [some (vR 67 r0), some (vI x1), some (vI x2), none, none] [] h Q := by
  unfold W_J16_copyOfRangeByte_0 at w
  refine jw_iload_n (pc' := 1) rfl rfl ?_
  refine jw_iload_n (pc' := 2) rfl rfl ?_
  refine jw_cV (st := []) (sa := [vI x1, vI x2]) okJ16_checkLength rfl rfl rfl rfl rfl rfl (jstp_static (sa := [vI x1, vI x2]) (st := []) rfl rfl sJ16_checkLength okJ16_checkLength rfl rfl) w (fun h_1 _ _ w => ?_)
  refine jw_iload_n (pc' := 6) rfl rfl ?_
  refine jw_iload_n (pc' := 7) rfl rfl ?_
  refine jw_isub (pc' := 8) rfl ?_
  refine jw_istore_n (pc' := 9) (ls' := [some (vR 67 r0), some (vI x1), some (vI x2), some (vI (x2 - x1)), none]) rfl (by decide) rfl ?_
  refine jw_iload_n (pc' := 10) rfl rfl ?_
  obtain ⟨g_8, w⟩ := w
  refine jw_newa' (pc' := 12) (n := ixn (x2 - x1)) (k := 219) rfl rfl rfl rfl rfl rfl (lw_g (jtb_mem (c := 1) (i := 105) rfl) rfl) g_8.ix g_8.b1 (fun r_4 h_5 e_6 e_7 => ?_)
  replace w := w r_4 h_5 e_6 e_7
  refine jw_astore (pc' := 14) (ls' := [some (vR 67 r0), some (vI x1), some (vI x2), some (vI (x2 - x1)), some (vR 219 r_4)]) rfl (by decide) rfl ?_
  refine jw_aload_n (pc' := 15) rfl rfl ?_
  refine jw_iload_n (pc' := 16) rfl rfl ?_
  refine jw_aload (pc' := 18) rfl rfl ?_
  refine jw_iconst (pc' := 19) (x := (0 : Int32)) rfl rfl ?_
  refine jw_aload_n (pc' := 20) rfl rfl ?_
  obtain ⟨g_9, w⟩ := w
  refine jw_alen (pc' := 21) rfl rfl g_9 ?_
  refine jw_iload_n (pc' := 22) rfl rfl ?_
  refine jw_isub (pc' := 23) rfl ?_
  refine jw_iload_n (pc' := 24) rfl rfl ?_
  refine jw_cI (st := [vI (0 : Int32), vR 219 r_4, vI x1, vR 67 r0]) (sa := [vI ((nI (jln h_5 r0)) - x1), vI (x2 - x1)]) okJ15_min rfl rfl rfl rfl rfl rfl (jstp_static (sa := [vI ((nI (jln h_5 r0)) - x1), vI (x2 - x1)]) (st := [vI (0 : Int32), vR 219 r_4, vI x1, vR 67 r0]) rfl rfl sJ15_min okJ15_min rfl rfl) w (fun v_12 h_10 _ _ w => ?_)
  obtain ⟨g_13, w⟩ := w
  refine jw_acopy' (pc' := 30) rfl (lw_g (jtb_mem (c := 3) (i := 200) rfl) rfl) rfl g_9 (jnz e_6) g_13 (fun h_14 e_15 => ?_)
  replace w := w h_14 e_15
  refine jw_aload (pc' := 32) rfl rfl ?_
  exact jw_areturn rfl rfl rfl rfl rfl w
def T_J16_copyOfRangeByte (D : JD) (d : Nat) (Q : JO → JH → Prop) (r0 : Nat) (x1 : Int32) (x2 : Int32) (h : JH) : Prop := W_J16_copyOfRangeByte_0 D d Q r0 x1 x2 h
theorem t_J16_copyOfRangeByte {D : JD} {d : Nat} {Q : JO → JH → Prop} {r0 : Nat} {x1 : Int32} {x2 : Int32} {h : JH} (w : T_J16_copyOfRangeByte D d Q r0 x1 x2 h) : cJ16_copyOfRangeByte D (d + 1) r0 x1 x2 h Q := by
  unfold T_J16_copyOfRangeByte at w
  unfold cJ16_copyOfRangeByte
  exact w_J16_copyOfRangeByte_0 w
def W_J16_checkLength_0 (D : JD) (d : Nat) (Q : JO → JH → Prop) (x0 : Int32) (x1 : Int32) (h : JH) : Prop :=
  (x0 ≤ x1 → Q (.inl none) h) ∧ (¬ x0 ≤ x1 → ∀ (r_2 : Nat) (h_3 : JH), r_2 = jsz h + 1 → h_3 = nwo h 13 6 → (∀ (r_6 : Nat) (h_7 : JH), r_6 = jsz h_3 + 1 → h_7 = nwo h_3 11 4 → (cJ13_init D d r_6 h_7 (pV D h_7 (fun h_10 => cJ13_append_2 D d r_6 x0 h_10 (pR D h_10 11 (fun v_15 h_13 => v_15 ≠ 0 ∧ (cJ13_append_3 D d v_15 (jcs D 3) h_13 (pR D h_13 11 (fun v_19 h_17 => v_19 ≠ 0 ∧ (cJ13_append_2 D d v_19 x1 h_17 (pR D h_17 11 (fun v_23 h_21 => v_23 ≠ 0 ∧ (cJ13_toString D d v_23 h_21 (pR D h_21 64 (fun v_27 h_25 => cJ6_init D d r_2 v_27 h_25 (pV D h_25 (fun h_28 => Q (.inr r_2) h_28) (jth Q))) (jth Q)))) (jth Q)))) (jth Q)))) (jth Q))) (jth Q)))))
theorem w_J16_checkLength_0 {D : JD} {d : Nat} {Q : JO → JH → Prop} {x0 : Int32} {x1 : Int32} {h : JH} (w : W_J16_checkLength_0 D d Q x0 x1 h) : JW D (d + 1) mJ16_checkLength 0 [some (vI x0), some (vI x1)] [] h Q := by
  unfold W_J16_checkLength_0 at w
  refine jw_iload_n (pc' := 1) rfl rfl ?_
  refine jw_iload_n (pc' := 2) rfl rfl ?_
  refine jw_icmp_ge (tgt := 37) (pc' := 5) rfl rfl (fun c_1 => ?_) (fun c_1 => ?_)
  · replace w := w.1 c_1
    exact jw_return rfl rfl w
  · replace w := w.2 c_1
    refine jw_new' (pc' := 8) (k := 13) (n := 6) rfl rfl rfl rfl rfl rfl rfl (fun r_2 h_3 e_4 e_5 => ?_)
    replace w := w r_2 h_3 e_4 e_5
    refine jw_dup (pc' := 9) rfl rfl ?_
    refine jw_new' (pc' := 12) (k := 11) (n := 4) rfl rfl rfl rfl rfl rfl rfl (fun r_6 h_7 e_8 e_9 => ?_)
    replace w := w r_6 h_7 e_8 e_9
    refine jw_dup (pc' := 13) rfl rfl ?_
    refine jw_cV (st := [vR 11 r_6, vR 13 r_2, vR 13 r_2]) (sa := [vR 11 r_6]) okJ13_init rfl rfl rfl rfl rfl rfl (jstp_init (sa := []) (st := [vR 11 r_6, vR 13 r_2, vR 13 r_2]) rfl rfl sJ13_init okJ13_init (lw_g (jtb_mem (c := 3) (i := 134) rfl) rfl) (jnz e_8) rfl rfl) w (fun h_10 _ _ w => ?_)
    refine jw_iload_n (pc' := 17) rfl rfl ?_
    refine jw_cR (st := [vR 13 r_2, vR 13 r_2]) (sa := [vR 11 r_6, vI x0]) okJ13_append_2 rfl rfl rfl rfl rfl rfl (jstp_virtual (sa := [vI x0]) (st := [vR 13 r_2, vR 13 r_2]) (k := 0) rfl rfl sJ13_append_2 okJ13_append_2 (jnz e_8) (one11.k (jnz e_8)) rfl rfl) w (fun v_15 h_13 _ _ _ w => ?_)
    refine jw_ldcwS (pc' := 23) rfl rfl rfl rfl ?_
    obtain ⟨g_16, w⟩ := w
    refine jw_cR (st := [vR 13 r_2, vR 13 r_2]) (sa := [vR 11 v_15, vR 51 (jcs D 3)]) okJ13_append_3 rfl rfl rfl rfl rfl rfl (jstp_virtual (sa := [vR 51 (jcs D 3)]) (st := [vR 13 r_2, vR 13 r_2]) (k := 0) rfl rfl sJ13_append_3 okJ13_append_3 g_16 (one11.k g_16) rfl rfl) w (fun v_19 h_17 _ _ _ w => ?_)
    refine jw_iload_n (pc' := 27) rfl rfl ?_
    obtain ⟨g_20, w⟩ := w
    refine jw_cR (st := [vR 13 r_2, vR 13 r_2]) (sa := [vR 11 v_19, vI x1]) okJ13_append_2 rfl rfl rfl rfl rfl rfl (jstp_virtual (sa := [vI x1]) (st := [vR 13 r_2, vR 13 r_2]) (k := 0) rfl rfl sJ13_append_2 okJ13_append_2 g_20 (one11.k g_20) rfl rfl) w (fun v_23 h_21 _ _ _ w => ?_)
    obtain ⟨g_24, w⟩ := w
    refine jw_cR (st := [vR 13 r_2, vR 13 r_2]) (sa := [vR 11 v_23]) okJ13_toString rfl rfl rfl rfl rfl rfl (jstp_virtual (sa := []) (st := [vR 13 r_2, vR 13 r_2]) (k := 0) rfl rfl sJ13_toString okJ13_toString g_24 (one11.k g_24) rfl rfl) w (fun v_27 h_25 _ _ _ w => ?_)
    refine jw_cV (st := [vR 13 r_2]) (sa := [vR 13 r_2, vR 64 v_27]) okJ6_init rfl rfl rfl rfl rfl rfl (jstp_init (sa := [vR 64 v_27]) (st := [vR 13 r_2]) rfl rfl sJ6_init okJ6_init (lw_g (jtb_mem (c := 4) (i := 137) rfl) rfl) (jnz e_4) rfl rfl) w (fun h_28 _ _ w => ?_)
    exact jw_athrow rfl rfl (jnz e_4) w
def T_J16_checkLength (D : JD) (d : Nat) (Q : JO → JH → Prop) (x0 : Int32) (x1 : Int32) (h : JH) : Prop := W_J16_checkLength_0 D d Q x0 x1 h
theorem t_J16_checkLength {D : JD} {d : Nat} {Q : JO → JH → Prop} {x0 : Int32} {x1 : Int32} {h : JH} (w : T_J16_checkLength D d Q x0 x1 h) : cJ16_checkLength D (d + 1) x0 x1 h Q := by
  unfold T_J16_checkLength at w
  unfold cJ16_checkLength
  exact w_J16_checkLength_0 w
def W_J17_stringSize_16 (D : JD) (d : Nat) (Q : JO → JH → Prop) (K16 : Int32 → Int32 → Int32 → Int32 → JH → Prop) (x0 : Int32) (x1 : Int32) (x2 : Int32) (x3 : Int32) (h : JH) : Prop :=
  ((10 : Int32) ≤ x3 → Q (.inl (some (vI ((10 : Int32) + x1)))) h) ∧ (¬ (10 : Int32) ≤ x3 → (x0 ≤ x2 → K16 x0 x1 ((10 : Int32) * x2) (x3 + (1 : Int32)) h) ∧ (¬ x0 ≤ x2 → Q (.inl (some (vI (x3 + x1)))) h))
theorem w_J17_stringSize_16 {D : JD} {d : Nat} {Q : JO → JH → Prop} {K16 : Int32 → Int32 → Int32 → Int32 → JH → Prop} {x0 : Int32} {x1 : Int32} {x2 : Int32} {x3 : Int32} {h : JH} (hK16 : ∀ (x0 : Int32) (x1 : Int32) (x2 : Int32) (x3 : Int32) (h : JH), K16 x0 x1 x2 x3 h → JW D (d + 1) mJ17_stringSize 16 [some (vI x0), some (vI x1), some (vI x2), some (vI x3)] [] h Q) (w : W_J17_stringSize_16 D d Q K16 x0 x1 x2 x3 h) : JW D (d + 1) mJ17_stringSize 16 [some (vI x0), some (vI x1), some (vI x2), some (vI x3)] [] h Q := by
  unfold W_J17_stringSize_16 at w
  refine jw_iload_n (pc' := 17) rfl rfl ?_
  refine jw_bipush (pc' := 19) (x := (10 : Int32)) rfl rfl ?_
  refine jw_icmp_ge (tgt := 42) (pc' := 22) rfl rfl (fun c_1 => ?_) (fun c_1 => ?_)
  · replace w := w.1 c_1
    refine jw_bipush (pc' := 44) (x := (10 : Int32)) rfl rfl ?_
    refine jw_iload_n (pc' := 45) rfl rfl ?_
    refine jw_iadd (pc' := 46) rfl ?_
    exact jw_ireturn rfl rfl (rfl) w
  · replace w := w.2 c_1
    refine jw_iload_n (pc' := 23) rfl rfl ?_
    refine jw_iload_n (pc' := 24) rfl rfl ?_
    refine jw_icmp_le (tgt := 31) (pc' := 27) rfl rfl (fun c_2 => ?_) (fun c_2 => ?_)
    · replace w := w.1 c_2
      refine jw_bipush (pc' := 33) (x := (10 : Int32)) rfl rfl ?_
      refine jw_iload_n (pc' := 34) rfl rfl ?_
      refine jw_imul (pc' := 35) rfl ?_
      refine jw_istore_n (pc' := 36) (ls' := [some (vI x0), some (vI x1), some (vI ((10 : Int32) * x2)), some (vI x3)]) rfl (by decide) rfl ?_
      refine jw_iinc (pc' := 39) (y := x3 + (1 : Int32)) (ls' := [some (vI x0), some (vI x1), some (vI ((10 : Int32) * x2)), some (vI (x3 + (1 : Int32)))]) rfl (by decide) rfl rfl rfl ?_
      refine jw_goto (pc' := 16) rfl rfl ?_
      exact hK16 _ _ _ _ _ w
    · replace w := w.2 c_2
      refine jw_iload_n (pc' := 28) rfl rfl ?_
      refine jw_iload_n (pc' := 29) rfl rfl ?_
      refine jw_iadd (pc' := 30) rfl ?_
      exact jw_ireturn rfl rfl (rfl) w
def L_J17_stringSize_16 (D : JD) (d : Nat) (Q : JO → JH → Prop) : Nat → Int32 → Int32 → Int32 → Int32 → JH → Prop
  | 0 => fun _ _ _ _ _ => False
  | n + 1 => fun x0 x1 x2 x3 h => W_J17_stringSize_16 D d Q (L_J17_stringSize_16 D d Q n) x0 x1 x2 x3 h
theorem l_J17_stringSize_16 {D : JD} {d : Nat} {Q : JO → JH → Prop} : ∀ (n : Nat) (x0 : Int32) (x1 : Int32) (x2 : Int32) (x3 : Int32) (h : JH), L_J17_stringSize_16 D d Q n x0 x1 x2 x3 h → JW D (d + 1) mJ17_stringSize 16 [some (vI x0), some (vI x1), some (vI x2), some (vI x3)] [] h Q := by
  intro n
  induction n with
  | zero => intro _ _ _ _ _ w; exact w.elim
  | succ n ih => intro _ _ _ _ h w; exact w_J17_stringSize_16 ih w
def W_J17_stringSize_11 (D : JD) (d : Nat) (Q : JO → JH → Prop) (x0 : Int32) (x1 : Int32) (h : JH) : Prop :=
  ∃ n, L_J17_stringSize_16 D d Q n x0 x1 (-10 : Int32) (1 : Int32) h
theorem w_J17_stringSize_11 {D : JD} {d : Nat} {Q : JO → JH → Prop} {x0 : Int32} {x1 : Int32} {h : JH} (w : W_J17_stringSize_11 D d Q x0 x1 h) : JW D (d + 1) mJ17_stringSize 11 [some (vI x0), some (vI x1), none, none] [] h Q := by
  unfold W_J17_stringSize_11 at w
  refine jw_bipush (pc' := 13) (x := (-10 : Int32)) rfl rfl ?_
  refine jw_istore_n (pc' := 14) (ls' := [some (vI x0), some (vI x1), some (vI (-10 : Int32)), none]) rfl (by decide) rfl ?_
  refine jw_iconst (pc' := 15) (x := (1 : Int32)) rfl rfl ?_
  refine jw_istore_n (pc' := 16) (ls' := [some (vI x0), some (vI x1), some (vI (-10 : Int32)), some (vI (1 : Int32))]) rfl (by decide) rfl ?_
  obtain ⟨n, w⟩ := w
  exact l_J17_stringSize_16 n _ _ _ _ _ w
def W_J17_stringSize_0 (D : JD) (d : Nat) (Q : JO → JH → Prop) (x0 : Int32) (h : JH) : Prop :=
  (x0 < 0 → W_J17_stringSize_11 D d Q x0 (1 : Int32) h) ∧ (¬ x0 < 0 → W_J17_stringSize_11 D d Q (-x0) (0 : Int32) h)
theorem w_J17_stringSize_0 {D : JD} {d : Nat} {Q : JO → JH → Prop} {x0 : Int32} {h : JH} (w : W_J17_stringSize_0 D d Q x0 h) : JW D (d + 1) mJ17_stringSize 0 [some (vI x0), none, none, none] [] h Q := by
  unfold W_J17_stringSize_0 at w
  refine jw_iconst (pc' := 1) (x := (1 : Int32)) rfl rfl ?_
  refine jw_istore_n (pc' := 2) (ls' := [some (vI x0), some (vI (1 : Int32)), none, none]) rfl (by decide) rfl ?_
  refine jw_iload_n (pc' := 3) rfl rfl ?_
  refine jw_if_lt (tgt := 11) (pc' := 6) rfl rfl (fun c_1 => ?_) (fun c_1 => ?_)
  · replace w := w.1 c_1
    exact w_J17_stringSize_11 w
  · replace w := w.2 c_1
    refine jw_iconst (pc' := 7) (x := (0 : Int32)) rfl rfl ?_
    refine jw_istore_n (pc' := 8) (ls' := [some (vI x0), some (vI (0 : Int32)), none, none]) rfl (by decide) rfl ?_
    refine jw_iload_n (pc' := 9) rfl rfl ?_
    refine jw_ineg (pc' := 10) rfl ?_
    refine jw_istore_n (pc' := 11) (ls' := [some (vI (-x0)), some (vI (0 : Int32)), none, none]) rfl (by decide) rfl ?_
    exact w_J17_stringSize_11 w
def T_J17_stringSize (D : JD) (d : Nat) (Q : JO → JH → Prop) (x0 : Int32) (h : JH) : Prop := W_J17_stringSize_0 D d Q x0 h
theorem t_J17_stringSize {D : JD} {d : Nat} {Q : JO → JH → Prop} {x0 : Int32} {h : JH} (w : T_J17_stringSize D d Q x0 h) : cJ17_stringSize D (d + 1) x0 h Q := by
  unfold T_J17_stringSize at w
  unfold cJ17_stringSize
  exact w_J17_stringSize_0 w
def W_J17_getChars_118 (D : JD) (d : Nat) (Q : JO → JH → Prop) (x5 : Int32) (h : JH) : Prop :=
  Q (.inl (some (vI x5))) h
theorem w_J17_getChars_118 {D : JD} {d : Nat} {Q : JO → JH → Prop} {x5 : Int32} {h : JH} (w : W_J17_getChars_118 D d Q x5 h) : JW D (d + 1) mJ17_getChars 118 [none, none, none, none, none, some (vI x5), none] [] h Q := by
  unfold W_J17_getChars_118 at w
  refine jw_iload (pc' := 120) rfl rfl ?_
  exact jw_ireturn rfl rfl (rfl) w
def W_J17_getChars_104 (D : JD) (d : Nat) (Q : JO → JH → Prop) (r2 : Nat) (x5 : Int32) (x6 : Int32) (h : JH) : Prop :=
  (x6 = 0 → W_J17_getChars_118 D d Q x5 h) ∧ (¬ x6 = 0 → (r2 = 0 ∨ sbt (jkd h r2) 65 = true) ∧ r2 ≠ 0 ∧ jin (x5 + (-1 : Int32)) (jln h r2) ∧ ∀ h_5 : JH, h_5 = wai h r2 (ixn (x5 + (-1 : Int32))) ((Int32.toInt8 (45 : Int32)).toInt32) → (W_J17_getChars_118 D d Q (x5 + (-1 : Int32)) h_5))
theorem w_J17_getChars_104 {D : JD} {d : Nat} {Q : JO → JH → Prop} {r2 : Nat} {x5 : Int32} {x6 : Int32} {h : JH} (w : W_J17_getChars_104 D d Q r2 x5 x6 h) : JW D (d + 1) mJ17_getChars 104 [none, none, some (vR 67 r2), none, none, some (vI x5), some (vI x6)] [] h Q := by
  unfold W_J17_getChars_104 at w
  refine jw_iload (pc' := 106) rfl rfl ?_
  refine jw_if_eq (tgt := 118) (pc' := 109) rfl rfl (fun c_1 => ?_) (fun c_1 => ?_)
  · replace w := w.1 c_1
    refine jw_gen (ls' := [none, none, none, none, none, some (vI x5), none]) (st' := []) (And.intro (Or.inl rfl) (trivial)) (trivial) ?_
    exact w_J17_getChars_118 w
  · replace w := w.2 c_1
    refine jw_aload_n (pc' := 110) rfl rfl ?_
    refine jw_iinc (pc' := 113) (y := x5 + (-1 : Int32)) (ls' := [none, none, some (vR 67 r2), none, none, some (vI (x5 + (-1 : Int32))), some (vI x6)]) rfl (by decide) rfl rfl rfl ?_
    refine jw_iload (pc' := 115) rfl rfl ?_
    refine jw_bipush (pc' := 117) (x := (45 : Int32)) rfl rfl ?_
    obtain ⟨g_2, w⟩ := w
    refine jw_gen (ls' := _) (st' := [vI (45 : Int32), vI (x5 + (-1 : Int32)), vR 65 r2]) (jgl_rf _ _) (And.intro (Or.inl rfl) (And.intro (Or.inl rfl) (And.intro (Or.inr ⟨_, _, _, rfl, rfl, Or.elim g_2 (fun z => Or.inl z) (fun z => Or.inr (Or.inr z))⟩) (trivial)))) ?_
    obtain ⟨g_3, w⟩ := w
    obtain ⟨g_4, w⟩ := w
    refine jw_bast' (pc' := 118) rfl rfl rfl rfl rfl g_3 g_4 (fun h_5 e_6 => ?_)
    replace w := w h_5 e_6
    refine jw_gen (ls' := [none, none, none, none, none, some (vI (x5 + (-1 : Int32))), none]) (st' := []) (And.intro (Or.inl rfl) (trivial)) (trivial) ?_
    exact w_J17_getChars_118 w
def W_J17_getChars_22 (D : JD) (d : Nat) (Q : JO → JH → Prop) (K22 : Int32 → Nat → Int32 → Int32 → JH → Prop) (x0 : Int32) (r2 : Nat) (x5 : Int32) (x6 : Int32) (h : JH) : Prop :=
  ((-100 : Int32) < x0 → (jcs D 348) ≠ 0 ∧ jin (-x0) (jln h (jcs D 348)) ∧ ((r2 = 0 ∨ sbt (jkd h r2) 65 = true) ∧ r2 ≠ 0 ∧ jin (x5 + (-1 : Int32)) (jln h r2) ∧ ∀ h_7 : JH, h_7 = wai h r2 (ixn (x5 + (-1 : Int32))) ((Int32.toInt8 (jai h (jcs D 348) (ixn (-x0)))).toInt32) → (((-9 : Int32) ≤ x0 → W_J17_getChars_104 D d Q r2 (x5 + (-1 : Int32)) x6 h_7) ∧ (¬ (-9 : Int32) ≤ x0 → (jcs D 349) ≠ 0 ∧ jin (-x0) (jln h_7 (jcs D 349)) ∧ ((r2 = 0 ∨ sbt (jkd h_7 r2) 65 = true) ∧ jin ((x5 + (-1 : Int32)) + (-1 : Int32)) (jln h_7 r2) ∧ ∀ h_14 : JH, h_14 = wai h_7 r2 (ixn ((x5 + (-1 : Int32)) + (-1 : Int32))) ((Int32.toInt8 (jai h_7 (jcs D 349) (ixn (-x0)))).toInt32) → (W_J17_getChars_104 D d Q r2 ((x5 + (-1 : Int32)) + (-1 : Int32)) x6 h_14)))))) ∧ (¬ (-100 : Int32) < x0 → (jcs D 348) ≠ 0 ∧ jin (((x0 / (100 : Int32)) * (100 : Int32)) - x0) (jln h (jcs D 348)) ∧ ((r2 = 0 ∨ sbt (jkd h r2) 65 = true) ∧ r2 ≠ 0 ∧ jin (x5 + (-1 : Int32)) (jln h r2) ∧ ∀ h_21 : JH, h_21 = wai h r2 (ixn (x5 + (-1 : Int32))) ((Int32.toInt8 (jai h (jcs D 348) (ixn (((x0 / (100 : Int32)) * (100 : Int32)) - x0)))).toInt32) → ((jcs D 349) ≠ 0 ∧ jin (((x0 / (100 : Int32)) * (100 : Int32)) - x0) (jln h_21 (jcs D 349)) ∧ ((r2 = 0 ∨ sbt (jkd h_21 r2) 65 = true) ∧ jin ((x5 + (-1 : Int32)) + (-1 : Int32)) (jln h_21 r2) ∧ ∀ h_27 : JH, h_27 = wai h_21 r2 (ixn ((x5 + (-1 : Int32)) + (-1 : Int32))) ((Int32.toInt8 (jai h_21 (jcs D 349) (ixn (((x0 / (100 : Int32)) * (100 : Int32)) - x0)))).toInt32) → (K22 (x0 / (100 : Int32)) r2 ((x5 + (-1 : Int32)) + (-1 : Int32)) x6 h_27)))))
theorem w_J17_getChars_22 {D : JD} {d : Nat} {Q : JO → JH → Prop} {K22 : Int32 → Nat → Int32 → Int32 → JH → Prop} {x0 : Int32} {r2 : Nat} {x5 : Int32} {x6 : Int32} {h : JH} (hK22 : ∀ (x0 : Int32) (r2 : Nat) (x5 : Int32) (x6 : Int32) (h : JH), K22 x0 r2 x5 x6 h → JW D (d + 1) mJ17_getChars 22 [some (vI x0), none, some (vR 67 r2), none, none, some (vI x5), some (vI x6)] [] h Q) (w : W_J17_getChars_22 D d Q K22 x0 r2 x5 x6 h) : JW D (d + 1) mJ17_getChars 22 [some (vI x0), none, some (vR 67 r2), none, none, some (vI x5), some (vI x6)] [] h Q := by
  unfold W_J17_getChars_22 at w
  refine jw_iload_n (pc' := 23) rfl rfl ?_
  refine jw_bipush (pc' := 25) (x := (-100 : Int32)) rfl rfl ?_
  refine jw_icmp_gt (tgt := 72) (pc' := 28) rfl rfl (fun c_1 => ?_) (fun c_1 => ?_)
  · replace w := w.1 c_1
    refine jw_aload_n (pc' := 73) rfl rfl ?_
    refine jw_iinc (pc' := 76) (y := x5 + (-1 : Int32)) (ls' := [some (vI x0), none, some (vR 67 r2), none, none, some (vI (x5 + (-1 : Int32))), some (vI x6)]) rfl (by decide) rfl rfl rfl ?_
    refine jw_iload (pc' := 78) rfl rfl ?_
    refine jw_getsR (pc' := 81) rfl rfl rfl rfl ?_
    refine jw_iload_n (pc' := 82) rfl rfl ?_
    refine jw_ineg (pc' := 83) rfl ?_
    obtain ⟨g_2, w⟩ := w
    obtain ⟨g_3, w⟩ := w
    refine jw_bald (pc' := 84) rfl rfl rfl rfl g_2 g_3.ix g_3.2 ?_
    obtain ⟨g_4, w⟩ := w
    refine jw_gen (ls' := _) (st' := [vI (jai h (jcs D 348) (ixn (-x0))), vI (x5 + (-1 : Int32)), vR 65 r2]) (jgl_rf _ _) (And.intro (Or.inl rfl) (And.intro (Or.inl rfl) (And.intro (Or.inr ⟨_, _, _, rfl, rfl, Or.elim g_4 (fun z => Or.inl z) (fun z => Or.inr (Or.inr z))⟩) (trivial)))) ?_
    obtain ⟨g_5, w⟩ := w
    obtain ⟨g_6, w⟩ := w
    refine jw_bast' (pc' := 85) rfl rfl rfl rfl rfl g_5 g_6 (fun h_7 e_8 => ?_)
    replace w := w h_7 e_8
    refine jw_iload_n (pc' := 86) rfl rfl ?_
    refine jw_bipush (pc' := 88) (x := (-9 : Int32)) rfl rfl ?_
    refine jw_icmp_ge (tgt := 104) (pc' := 91) rfl rfl (fun c_9 => ?_) (fun c_9 => ?_)
    · replace w := w.1 c_9
      refine jw_gen (ls' := [none, none, some (vR 67 r2), none, none, some (vI (x5 + (-1 : Int32))), some (vI x6)]) (st' := []) (And.intro (Or.inl rfl) (And.intro (Or.inl rfl) (And.intro (Or.inl rfl) (trivial)))) (trivial) ?_
      exact w_J17_getChars_104 w
    · replace w := w.2 c_9
      refine jw_aload_n (pc' := 92) rfl rfl ?_
      refine jw_iinc (pc' := 95) (y := (x5 + (-1 : Int32)) + (-1 : Int32)) (ls' := [some (vI x0), none, some (vR 67 r2), none, none, some (vI ((x5 + (-1 : Int32)) + (-1 : Int32))), some (vI x6)]) rfl (by decide) rfl rfl rfl ?_
      refine jw_iload (pc' := 97) rfl rfl ?_
      refine jw_getsR (pc' := 100) rfl rfl rfl rfl ?_
      refine jw_iload_n (pc' := 101) rfl rfl ?_
      refine jw_ineg (pc' := 102) rfl ?_
      obtain ⟨g_10, w⟩ := w
      obtain ⟨g_11, w⟩ := w
      refine jw_bald (pc' := 103) rfl rfl rfl rfl g_10 g_11.ix g_11.2 ?_
      obtain ⟨g_12, w⟩ := w
      refine jw_gen (ls' := _) (st' := [vI (jai h_7 (jcs D 349) (ixn (-x0))), vI ((x5 + (-1 : Int32)) + (-1 : Int32)), vR 65 r2]) (jgl_rf _ _) (And.intro (Or.inl rfl) (And.intro (Or.inl rfl) (And.intro (Or.inr ⟨_, _, _, rfl, rfl, Or.elim g_12 (fun z => Or.inl z) (fun z => Or.inr (Or.inr z))⟩) (trivial)))) ?_
      obtain ⟨g_13, w⟩ := w
      refine jw_bast' (pc' := 104) rfl rfl rfl rfl rfl g_5 g_13 (fun h_14 e_15 => ?_)
      replace w := w h_14 e_15
      refine jw_gen (ls' := [none, none, some (vR 67 r2), none, none, some (vI ((x5 + (-1 : Int32)) + (-1 : Int32))), some (vI x6)]) (st' := []) (And.intro (Or.inl rfl) (And.intro (Or.inl rfl) (And.intro (Or.inl rfl) (trivial)))) (trivial) ?_
      exact w_J17_getChars_104 w
  · replace w := w.2 c_1
    refine jw_iload_n (pc' := 29) rfl rfl ?_
    refine jw_bipush (pc' := 31) (x := (100 : Int32)) rfl rfl ?_
    refine jw_idiv (pc' := 32) rfl (by decide) ?_
    refine jw_istore_n (pc' := 33) (ls' := [some (vI x0), none, some (vR 67 r2), some (vI (x0 / (100 : Int32))), none, some (vI x5), some (vI x6)]) rfl (by decide) rfl ?_
    refine jw_iload_n (pc' := 34) rfl rfl ?_
    refine jw_bipush (pc' := 36) (x := (100 : Int32)) rfl rfl ?_
    refine jw_imul (pc' := 37) rfl ?_
    refine jw_iload_n (pc' := 38) rfl rfl ?_
    refine jw_isub (pc' := 39) rfl ?_
    refine jw_istore (pc' := 41) (ls' := [some (vI x0), none, some (vR 67 r2), some (vI (x0 / (100 : Int32))), some (vI (((x0 / (100 : Int32)) * (100 : Int32)) - x0)), some (vI x5), some (vI x6)]) rfl (by decide) rfl ?_
    refine jw_iload_n (pc' := 42) rfl rfl ?_
    refine jw_istore_n (pc' := 43) (ls' := [some (vI (x0 / (100 : Int32))), none, some (vR 67 r2), some (vI (x0 / (100 : Int32))), some (vI (((x0 / (100 : Int32)) * (100 : Int32)) - x0)), some (vI x5), some (vI x6)]) rfl (by decide) rfl ?_
    refine jw_aload_n (pc' := 44) rfl rfl ?_
    refine jw_iinc (pc' := 47) (y := x5 + (-1 : Int32)) (ls' := [some (vI (x0 / (100 : Int32))), none, some (vR 67 r2), some (vI (x0 / (100 : Int32))), some (vI (((x0 / (100 : Int32)) * (100 : Int32)) - x0)), some (vI (x5 + (-1 : Int32))), some (vI x6)]) rfl (by decide) rfl rfl rfl ?_
    refine jw_iload (pc' := 49) rfl rfl ?_
    refine jw_getsR (pc' := 52) rfl rfl rfl rfl ?_
    refine jw_iload (pc' := 54) rfl rfl ?_
    obtain ⟨g_16, w⟩ := w
    obtain ⟨g_17, w⟩ := w
    refine jw_bald (pc' := 55) rfl rfl rfl rfl g_16 g_17.ix g_17.2 ?_
    obtain ⟨g_18, w⟩ := w
    refine jw_gen (ls' := _) (st' := [vI (jai h (jcs D 348) (ixn (((x0 / (100 : Int32)) * (100 : Int32)) - x0))), vI (x5 + (-1 : Int32)), vR 65 r2]) (jgl_rf _ _) (And.intro (Or.inl rfl) (And.intro (Or.inl rfl) (And.intro (Or.inr ⟨_, _, _, rfl, rfl, Or.elim g_18 (fun z => Or.inl z) (fun z => Or.inr (Or.inr z))⟩) (trivial)))) ?_
    obtain ⟨g_19, w⟩ := w
    obtain ⟨g_20, w⟩ := w
    refine jw_bast' (pc' := 56) rfl rfl rfl rfl rfl g_19 g_20 (fun h_21 e_22 => ?_)
    replace w := w h_21 e_22
    refine jw_aload_n (pc' := 57) rfl rfl ?_
    refine jw_iinc (pc' := 60) (y := (x5 + (-1 : Int32)) + (-1 : Int32)) (ls' := [some (vI (x0 / (100 : Int32))), none, some (vR 67 r2), some (vI (x0 / (100 : Int32))), some (vI (((x0 / (100 : Int32)) * (100 : Int32)) - x0)), some (vI ((x5 + (-1 : Int32)) + (-1 : Int32))), some (vI x6)]) rfl (by decide) rfl rfl rfl ?_
    refine jw_iload (pc' := 62) rfl rfl ?_
    refine jw_getsR (pc' := 65) rfl rfl rfl rfl ?_
    refine jw_iload (pc' := 67) rfl rfl ?_
    obtain ⟨g_23, w⟩ := w
    obtain ⟨g_24, w⟩ := w
    refine jw_bald (pc' := 68) rfl rfl rfl rfl g_23 g_24.ix g_24.2 ?_
    obtain ⟨g_25, w⟩ := w
    refine jw_gen (ls' := _) (st' := [vI (jai h_21 (jcs D 349) (ixn (((x0 / (100 : Int32)) * (100 : Int32)) - x0))), vI ((x5 + (-1 : Int32)) + (-1 : Int32)), vR 65 r2]) (jgl_rf _ _) (And.intro (Or.inl rfl) (And.intro (Or.inl rfl) (And.intro (Or.inr ⟨_, _, _, rfl, rfl, Or.elim g_25 (fun z => Or.inl z) (fun z => Or.inr (Or.inr z))⟩) (trivial)))) ?_
    obtain ⟨g_26, w⟩ := w
    refine jw_bast' (pc' := 69) rfl rfl rfl rfl rfl g_19 g_26 (fun h_27 e_28 => ?_)
    replace w := w h_27 e_28
    refine jw_goto (pc' := 22) rfl rfl ?_
    refine jw_gen (ls' := [some (vI (x0 / (100 : Int32))), none, some (vR 67 r2), none, none, some (vI ((x5 + (-1 : Int32)) + (-1 : Int32))), some (vI x6)]) (st' := []) (And.intro (Or.inl rfl) (And.intro (Or.inl rfl) (And.intro (Or.inl rfl) (And.intro (Or.inl rfl) (trivial))))) (trivial) ?_
    exact hK22 _ _ _ _ _ w
def L_J17_getChars_22 (D : JD) (d : Nat) (Q : JO → JH → Prop) : Nat → Int32 → Nat → Int32 → Int32 → JH → Prop
  | 0 => fun _ _ _ _ _ => False
  | n + 1 => fun x0 r2 x5 x6 h => W_J17_getChars_22 D d Q (L_J17_getChars_22 D d Q n) x0 r2 x5 x6 h
theorem l_J17_getChars_22 {D : JD} {d : Nat} {Q : JO → JH → Prop} : ∀ (n : Nat) (x0 : Int32) (r2 : Nat) (x5 : Int32) (x6 : Int32) (h : JH), L_J17_getChars_22 D d Q n x0 r2 x5 x6 h → JW D (d + 1) mJ17_getChars 22 [some (vI x0), none, some (vR 67 r2), none, none, some (vI x5), some (vI x6)] [] h Q := by
  intro n
  induction n with
  | zero => intro _ _ _ _ _ w; exact w.elim
  | succ n ih => intro _ _ _ _ h w; exact w_J17_getChars_22 ih w
def W_J17_getChars_12 (D : JD) (d : Nat) (Q : JO → JH → Prop) (x0 : Int32) (r2 : Nat) (x5 : Int32) (s0 : Int32) (h : JH) : Prop :=
  (¬ s0 = 0 → ∃ n, L_J17_getChars_22 D d Q n x0 r2 x5 s0 h) ∧ (s0 = 0 → ∃ n, L_J17_getChars_22 D d Q n (-x0) r2 x5 s0 h)
theorem w_J17_getChars_12 {D : JD} {d : Nat} {Q : JO → JH → Prop} {x0 : Int32} {r2 : Nat} {x5 : Int32} {s0 : Int32} {h : JH} (w : W_J17_getChars_12 D d Q x0 r2 x5 s0 h) : JW D (d + 1) mJ17_getChars 12 [some (vI x0), none, some (vR 67 r2), none, none, some (vI x5), none] [vI s0] h Q := by
  unfold W_J17_getChars_12 at w
  refine jw_istore (pc' := 14) (ls' := [some (vI x0), none, some (vR 67 r2), none, none, some (vI x5), some (vI s0)]) rfl (by decide) rfl ?_
  refine jw_iload (pc' := 16) rfl rfl ?_
  refine jw_if_ne (tgt := 22) (pc' := 19) rfl rfl (fun c_1 => ?_) (fun c_1 => ?_)
  · replace w := w.1 c_1
    obtain ⟨n, w⟩ := w
    exact l_J17_getChars_22 n _ _ _ _ _ w
  · replace w := w.2 c_1
    refine jw_iload_n (pc' := 20) rfl rfl ?_
    refine jw_ineg (pc' := 21) rfl ?_
    refine jw_istore_n (pc' := 22) (ls' := [some (vI (-x0)), none, some (vR 67 r2), none, none, some (vI x5), some (vI s0)]) rfl (by decide) rfl ?_
    obtain ⟨n, w⟩ := w
    exact l_J17_getChars_22 n _ _ _ _ _ w
def W_J17_getChars_0 (D : JD) (d : Nat) (Q : JO → JH → Prop) (x0 : Int32) (x1 : Int32) (r2 : Nat) (h : JH) : Prop :=
  (0 ≤ x0 → W_J17_getChars_12 D d Q x0 r2 x1 (0 : Int32) h) ∧ (¬ 0 ≤ x0 → W_J17_getChars_12 D d Q x0 r2 x1 (1 : Int32) h)
theorem w_J17_getChars_0 {D : JD} {d : Nat} {Q : JO → JH → Prop} {x0 : Int32} {x1 : Int32} {r2 : Nat} {h : JH} (w : W_J17_getChars_0 D d Q x0 x1 r2 h) : JW D (d + 1) mJ17_getChars 0 [some (vI x0), some (vI x1), some (vR 67 r2), none, none, none, none] [] h Q := by
  unfold W_J17_getChars_0 at w
  refine jw_iload_n (pc' := 1) rfl rfl ?_
  refine jw_istore (pc' := 3) (ls' := [some (vI x0), some (vI x1), some (vR 67 r2), none, none, some (vI x1), none]) rfl (by decide) rfl ?_
  refine jw_iload_n (pc' := 4) rfl rfl ?_
  refine jw_if_ge (tgt := 11) (pc' := 7) rfl rfl (fun c_1 => ?_) (fun c_1 => ?_)
  · replace w := w.1 c_1
    refine jw_iconst (pc' := 12) (x := (0 : Int32)) rfl rfl ?_
    refine jw_gen (ls' := [some (vI x0), none, some (vR 67 r2), none, none, some (vI x1), none]) (st' := [vI (0 : Int32)]) (And.intro (Or.inl rfl) (And.intro (Or.inl rfl) (And.intro (Or.inl rfl) (trivial)))) (And.intro (Or.inl rfl) (trivial)) ?_
    exact w_J17_getChars_12 w
  · replace w := w.2 c_1
    refine jw_iconst (pc' := 8) (x := (1 : Int32)) rfl rfl ?_
    refine jw_goto (pc' := 12) rfl rfl ?_
    refine jw_gen (ls' := [some (vI x0), none, some (vR 67 r2), none, none, some (vI x1), none]) (st' := [vI (1 : Int32)]) (And.intro (Or.inl rfl) (And.intro (Or.inl rfl) (And.intro (Or.inl rfl) (trivial)))) (And.intro (Or.inl rfl) (trivial)) ?_
    exact w_J17_getChars_12 w
def T_J17_getChars (D : JD) (d : Nat) (Q : JO → JH → Prop) (x0 : Int32) (x1 : Int32) (r2 : Nat) (h : JH) : Prop := W_J17_getChars_0 D d Q x0 x1 r2 h
theorem t_J17_getChars {D : JD} {d : Nat} {Q : JO → JH → Prop} {x0 : Int32} {x1 : Int32} {r2 : Nat} {h : JH} (w : T_J17_getChars D d Q x0 x1 r2 h) : cJ17_getChars D (d + 1) x0 x1 r2 h Q := by
  unfold T_J17_getChars at w
  unfold cJ17_getChars
  exact w_J17_getChars_0 w
def W_J17_toString_0 (D : JD) (d : Nat) (Q : JO → JH → Prop) (x0 : Int32) (h : JH) : Prop :=
  cJ17_stringSize D d x0 h (pI D h (fun v_3 h_1 => jsm v_3 ∧ ∀ (r_5 : Nat) (h_6 : JH), r_5 = jsz h_1 + 1 → h_6 = nwa h_1 219 (ixn v_3) → (cJ17_getChars D d x0 v_3 r_5 h_6 (pI D h_6 (fun v_12 h_10 => ∀ (r_13 : Nat) (h_14 : JH), r_13 = jsz h_10 + 1 → h_14 = nwo h_10 12 4 → (cJ5_init_3 D d r_13 r_5 (0 : Int32) h_14 (pV D h_14 (fun h_17 => Q (.inl (some (vR 64 r_13))) h_17) (jth Q)))) (jth Q)))) (jth Q))
theorem w_J17_toString_0 {D : JD} {d : Nat} {Q : JO → JH → Prop} {x0 : Int32} {h : JH} (w : W_J17_toString_0 D d Q x0 h) : JW D (d + 1) mJ17_toString 0 [some (vI x0), none, none] [] h Q := by
  unfold W_J17_toString_0 at w
  refine jw_iload_n (pc' := 1) rfl rfl ?_
  refine jw_cI (st := []) (sa := [vI x0]) okJ17_stringSize rfl rfl rfl rfl rfl rfl (jstp_static (sa := [vI x0]) (st := []) rfl rfl sJ17_stringSize okJ17_stringSize rfl rfl) w (fun v_3 h_1 _ _ w => ?_)
  refine jw_istore_n (pc' := 5) (ls' := [some (vI x0), some (vI v_3), none]) rfl (by decide) rfl ?_
  refine jw_getsI (pc' := 8) (v := (1 : Int32)) rfl rfl (by decide +kernel) ?_
  refine jw_if_eq (tgt := 32) (pc' := 11) rfl rfl (fun c_4 => absurd c_4 (by decide)) (fun _ => ?_)
  refine jw_iload_n (pc' := 12) rfl rfl ?_
  obtain ⟨g_9, w⟩ := w
  refine jw_newa' (pc' := 14) (n := ixn v_3) (k := 219) rfl rfl rfl rfl rfl rfl (lw_g (jtb_mem (c := 1) (i := 105) rfl) rfl) g_9.ix g_9.b1 (fun r_5 h_6 e_7 e_8 => ?_)
  replace w := w r_5 h_6 e_7 e_8
  refine jw_astore_n (pc' := 15) (ls' := [some (vI x0), some (vI v_3), some (vR 219 r_5)]) rfl (by decide) rfl ?_
  refine jw_iload_n (pc' := 16) rfl rfl ?_
  refine jw_iload_n (pc' := 17) rfl rfl ?_
  refine jw_aload_n (pc' := 18) rfl rfl ?_
  refine jw_cI (st := []) (sa := [vI x0, vI v_3, vR 219 r_5]) okJ17_getChars rfl rfl rfl rfl rfl rfl (jstp_static (sa := [vI x0, vI v_3, vR 219 r_5]) (st := []) rfl rfl sJ17_getChars okJ17_getChars rfl rfl) w (fun v_12 h_10 _ _ w => ?_)
  refine jw_pop (pc' := 22) rfl rfl ?_
  refine jw_new' (pc' := 25) (k := 12) (n := 4) rfl rfl rfl rfl rfl rfl rfl (fun r_13 h_14 e_15 e_16 => ?_)
  replace w := w r_13 h_14 e_15 e_16
  refine jw_dup (pc' := 26) rfl rfl ?_
  refine jw_aload_n (pc' := 27) rfl rfl ?_
  refine jw_iconst (pc' := 28) (x := (0 : Int32)) rfl rfl ?_
  refine jw_cV (st := [vR 12 r_13]) (sa := [vR 12 r_13, vR 219 r_5, vI (0 : Int32)]) okJ5_init_3 rfl rfl rfl rfl rfl rfl (jstp_init (sa := [vR 219 r_5, vI (0 : Int32)]) (st := [vR 12 r_13]) rfl rfl sJ5_init_3 okJ5_init_3 (lw_g (jtb_mem (c := 5) (i := 7) rfl) rfl) (jnz e_15) rfl rfl) w (fun h_17 _ _ w => ?_)
  exact jw_areturn rfl rfl rfl rfl rfl w
def T_J17_toString (D : JD) (d : Nat) (Q : JO → JH → Prop) (x0 : Int32) (h : JH) : Prop := W_J17_toString_0 D d Q x0 h
theorem t_J17_toString {D : JD} {d : Nat} {Q : JO → JH → Prop} {x0 : Int32} {h : JH} (w : T_J17_toString D d Q x0 h) : cJ17_toString D (d + 1) x0 h Q := by
  unfold T_J17_toString at w
  unfold cJ17_toString
  exact w_J17_toString_0 w
def W_J17_numberOfLeadingZeros_73 (D : JD) (d : Nat) (Q : JO → JH → Prop) (x0 : Int32) (x1 : Int32) (h : JH) : Prop :=
  Q (.inl (some (vI (x1 - ((Int32.toUInt32 x0 >>> (Int32.toUInt32 (1 : Int32) &&& Int32.toUInt32 31)).toInt32))))) h
theorem w_J17_numberOfLeadingZeros_73 {D : JD} {d : Nat} {Q : JO → JH → Prop} {x0 : Int32} {x1 : Int32} {h : JH} (w : W_J17_numberOfLeadingZeros_73 D d Q x0 x1 h) : JW D (d + 1) mJ17_numberOfLeadingZeros 73 [some (vI x0), some (vI x1)] [] h Q := by
  unfold W_J17_numberOfLeadingZeros_73 at w
  refine jw_iload_n (pc' := 74) rfl rfl ?_
  refine jw_iload_n (pc' := 75) rfl rfl ?_
  refine jw_iconst (pc' := 76) (x := (1 : Int32)) rfl rfl ?_
  refine jw_iushr (pc' := 77) rfl ?_
  refine jw_isub (pc' := 78) rfl ?_
  exact jw_ireturn rfl rfl (rfl) w
def W_J17_numberOfLeadingZeros_61 (D : JD) (d : Nat) (Q : JO → JH → Prop) (x0 : Int32) (x1 : Int32) (h : JH) : Prop :=
  (x0 < (4 : Int32) → W_J17_numberOfLeadingZeros_73 D d Q x0 x1 h) ∧ (¬ x0 < (4 : Int32) → W_J17_numberOfLeadingZeros_73 D d Q ((Int32.toUInt32 x0 >>> (Int32.toUInt32 (2 : Int32) &&& Int32.toUInt32 31)).toInt32) (x1 + (-2 : Int32)) h)
theorem w_J17_numberOfLeadingZeros_61 {D : JD} {d : Nat} {Q : JO → JH → Prop} {x0 : Int32} {x1 : Int32} {h : JH} (w : W_J17_numberOfLeadingZeros_61 D d Q x0 x1 h) : JW D (d + 1) mJ17_numberOfLeadingZeros 61 [some (vI x0), some (vI x1)] [] h Q := by
  unfold W_J17_numberOfLeadingZeros_61 at w
  refine jw_iload_n (pc' := 62) rfl rfl ?_
  refine jw_iconst (pc' := 63) (x := (4 : Int32)) rfl rfl ?_
  refine jw_icmp_lt (tgt := 73) (pc' := 66) rfl rfl (fun c_1 => ?_) (fun c_1 => ?_)
  · replace w := w.1 c_1
    exact w_J17_numberOfLeadingZeros_73 w
  · replace w := w.2 c_1
    refine jw_iinc (pc' := 69) (y := x1 + (-2 : Int32)) (ls' := [some (vI x0), some (vI (x1 + (-2 : Int32)))]) rfl (by decide) rfl rfl rfl ?_
    refine jw_iload_n (pc' := 70) rfl rfl ?_
    refine jw_iconst (pc' := 71) (x := (2 : Int32)) rfl rfl ?_
    refine jw_iushr (pc' := 72) rfl ?_
    refine jw_istore_n (pc' := 73) (ls' := [some (vI ((Int32.toUInt32 x0 >>> (Int32.toUInt32 (2 : Int32) &&& Int32.toUInt32 31)).toInt32)), some (vI (x1 + (-2 : Int32)))]) rfl (by decide) rfl ?_
    exact w_J17_numberOfLeadingZeros_73 w
def W_J17_numberOfLeadingZeros_48 (D : JD) (d : Nat) (Q : JO → JH → Prop) (x0 : Int32) (x1 : Int32) (h : JH) : Prop :=
  (x0 < (16 : Int32) → W_J17_numberOfLeadingZeros_61 D d Q x0 x1 h) ∧ (¬ x0 < (16 : Int32) → W_J17_numberOfLeadingZeros_61 D d Q ((Int32.toUInt32 x0 >>> (Int32.toUInt32 (4 : Int32) &&& Int32.toUInt32 31)).toInt32) (x1 + (-4 : Int32)) h)
theorem w_J17_numberOfLeadingZeros_48 {D : JD} {d : Nat} {Q : JO → JH → Prop} {x0 : Int32} {x1 : Int32} {h : JH} (w : W_J17_numberOfLeadingZeros_48 D d Q x0 x1 h) : JW D (d + 1) mJ17_numberOfLeadingZeros 48 [some (vI x0), some (vI x1)] [] h Q := by
  unfold W_J17_numberOfLeadingZeros_48 at w
  refine jw_iload_n (pc' := 49) rfl rfl ?_
  refine jw_bipush (pc' := 51) (x := (16 : Int32)) rfl rfl ?_
  refine jw_icmp_lt (tgt := 61) (pc' := 54) rfl rfl (fun c_1 => ?_) (fun c_1 => ?_)
  · replace w := w.1 c_1
    exact w_J17_numberOfLeadingZeros_61 w
  · replace w := w.2 c_1
    refine jw_iinc (pc' := 57) (y := x1 + (-4 : Int32)) (ls' := [some (vI x0), some (vI (x1 + (-4 : Int32)))]) rfl (by decide) rfl rfl rfl ?_
    refine jw_iload_n (pc' := 58) rfl rfl ?_
    refine jw_iconst (pc' := 59) (x := (4 : Int32)) rfl rfl ?_
    refine jw_iushr (pc' := 60) rfl ?_
    refine jw_istore_n (pc' := 61) (ls' := [some (vI ((Int32.toUInt32 x0 >>> (Int32.toUInt32 (4 : Int32) &&& Int32.toUInt32 31)).toInt32)), some (vI (x1 + (-4 : Int32)))]) rfl (by decide) rfl ?_
    exact w_J17_numberOfLeadingZeros_61 w
def W_J17_numberOfLeadingZeros_33 (D : JD) (d : Nat) (Q : JO → JH → Prop) (x0 : Int32) (x1 : Int32) (h : JH) : Prop :=
  (x0 < (256 : Int32) → W_J17_numberOfLeadingZeros_48 D d Q x0 x1 h) ∧ (¬ x0 < (256 : Int32) → W_J17_numberOfLeadingZeros_48 D d Q ((Int32.toUInt32 x0 >>> (Int32.toUInt32 (8 : Int32) &&& Int32.toUInt32 31)).toInt32) (x1 + (-8 : Int32)) h)
theorem w_J17_numberOfLeadingZeros_33 {D : JD} {d : Nat} {Q : JO → JH → Prop} {x0 : Int32} {x1 : Int32} {h : JH} (w : W_J17_numberOfLeadingZeros_33 D d Q x0 x1 h) : JW D (d + 1) mJ17_numberOfLeadingZeros 33 [some (vI x0), some (vI x1)] [] h Q := by
  unfold W_J17_numberOfLeadingZeros_33 at w
  refine jw_iload_n (pc' := 34) rfl rfl ?_
  refine jw_sipush (pc' := 37) (x := (256 : Int32)) rfl rfl ?_
  refine jw_icmp_lt (tgt := 48) (pc' := 40) rfl rfl (fun c_1 => ?_) (fun c_1 => ?_)
  · replace w := w.1 c_1
    exact w_J17_numberOfLeadingZeros_48 w
  · replace w := w.2 c_1
    refine jw_iinc (pc' := 43) (y := x1 + (-8 : Int32)) (ls' := [some (vI x0), some (vI (x1 + (-8 : Int32)))]) rfl (by decide) rfl rfl rfl ?_
    refine jw_iload_n (pc' := 44) rfl rfl ?_
    refine jw_bipush (pc' := 46) (x := (8 : Int32)) rfl rfl ?_
    refine jw_iushr (pc' := 47) rfl ?_
    refine jw_istore_n (pc' := 48) (ls' := [some (vI ((Int32.toUInt32 x0 >>> (Int32.toUInt32 (8 : Int32) &&& Int32.toUInt32 31)).toInt32)), some (vI (x1 + (-8 : Int32)))]) rfl (by decide) rfl ?_
    exact w_J17_numberOfLeadingZeros_48 w
def W_J17_numberOfLeadingZeros_14 (D : JD) (d : Nat) (Q : JO → JH → Prop) (s0 : Int32) (h : JH) : Prop :=
  Q (.inl (some (vI s0))) h
theorem w_J17_numberOfLeadingZeros_14 {D : JD} {d : Nat} {Q : JO → JH → Prop} {s0 : Int32} {h : JH} (w : W_J17_numberOfLeadingZeros_14 D d Q s0 h) : JW D (d + 1) mJ17_numberOfLeadingZeros 14 [none, none] [vI s0] h Q := by
  unfold W_J17_numberOfLeadingZeros_14 at w
  exact jw_ireturn rfl rfl (rfl) w
def W_J17_numberOfLeadingZeros_0 (D : JD) (d : Nat) (Q : JO → JH → Prop) (x0 : Int32) (h : JH) : Prop :=
  (0 < x0 → (x0 < (65536 : Int32) → W_J17_numberOfLeadingZeros_33 D d Q x0 (31 : Int32) h) ∧ (¬ x0 < (65536 : Int32) → W_J17_numberOfLeadingZeros_33 D d Q ((Int32.toUInt32 x0 >>> (Int32.toUInt32 (16 : Int32) &&& Int32.toUInt32 31)).toInt32) ((31 : Int32) + (-16 : Int32)) h)) ∧ (¬ 0 < x0 → (¬ x0 = 0 → W_J17_numberOfLeadingZeros_14 D d Q (0 : Int32) h) ∧ (x0 = 0 → W_J17_numberOfLeadingZeros_14 D d Q (32 : Int32) h))
theorem w_J17_numberOfLeadingZeros_0 {D : JD} {d : Nat} {Q : JO → JH → Prop} {x0 : Int32} {h : JH} (w : W_J17_numberOfLeadingZeros_0 D d Q x0 h) : JW D (d + 1) mJ17_numberOfLeadingZeros 0 [some (vI x0), none] [] h Q := by
  unfold W_J17_numberOfLeadingZeros_0 at w
  refine jw_iload_n (pc' := 1) rfl rfl ?_
  refine jw_if_gt (tgt := 15) (pc' := 4) rfl rfl (fun c_1 => ?_) (fun c_1 => ?_)
  · replace w := w.1 c_1
    refine jw_bipush (pc' := 17) (x := (31 : Int32)) rfl rfl ?_
    refine jw_istore_n (pc' := 18) (ls' := [some (vI x0), some (vI (31 : Int32))]) rfl (by decide) rfl ?_
    refine jw_iload_n (pc' := 19) rfl rfl ?_
    refine jw_ldcwI (pc' := 22) (v := (65536 : Int32)) rfl rfl (by decide +kernel) ?_
    refine jw_icmp_lt (tgt := 33) (pc' := 25) rfl rfl (fun c_2 => ?_) (fun c_2 => ?_)
    · replace w := w.1 c_2
      exact w_J17_numberOfLeadingZeros_33 w
    · replace w := w.2 c_2
      refine jw_iinc (pc' := 28) (y := (31 : Int32) + (-16 : Int32)) (ls' := [some (vI x0), some (vI ((31 : Int32) + (-16 : Int32)))]) rfl (by decide) rfl rfl rfl ?_
      refine jw_iload_n (pc' := 29) rfl rfl ?_
      refine jw_bipush (pc' := 31) (x := (16 : Int32)) rfl rfl ?_
      refine jw_iushr (pc' := 32) rfl ?_
      refine jw_istore_n (pc' := 33) (ls' := [some (vI ((Int32.toUInt32 x0 >>> (Int32.toUInt32 (16 : Int32) &&& Int32.toUInt32 31)).toInt32)), some (vI ((31 : Int32) + (-16 : Int32)))]) rfl (by decide) rfl ?_
      exact w_J17_numberOfLeadingZeros_33 w
  · replace w := w.2 c_1
    refine jw_iload_n (pc' := 5) rfl rfl ?_
    refine jw_if_ne (tgt := 13) (pc' := 8) rfl rfl (fun c_3 => ?_) (fun c_3 => ?_)
    · replace w := w.1 c_3
      refine jw_iconst (pc' := 14) (x := (0 : Int32)) rfl rfl ?_
      refine jw_gen (ls' := [none, none]) (st' := [vI (0 : Int32)]) (trivial) (And.intro (Or.inl rfl) (trivial)) ?_
      exact w_J17_numberOfLeadingZeros_14 w
    · replace w := w.2 c_3
      refine jw_bipush (pc' := 10) (x := (32 : Int32)) rfl rfl ?_
      refine jw_goto (pc' := 14) rfl rfl ?_
      refine jw_gen (ls' := [none, none]) (st' := [vI (32 : Int32)]) (trivial) (And.intro (Or.inl rfl) (trivial)) ?_
      exact w_J17_numberOfLeadingZeros_14 w
def T_J17_numberOfLeadingZeros (D : JD) (d : Nat) (Q : JO → JH → Prop) (x0 : Int32) (h : JH) : Prop := W_J17_numberOfLeadingZeros_0 D d Q x0 h
theorem t_J17_numberOfLeadingZeros {D : JD} {d : Nat} {Q : JO → JH → Prop} {x0 : Int32} {h : JH} (w : T_J17_numberOfLeadingZeros D d Q x0 h) : cJ17_numberOfLeadingZeros D (d + 1) x0 h Q := by
  unfold T_J17_numberOfLeadingZeros at w
  unfold cJ17_numberOfLeadingZeros
  exact w_J17_numberOfLeadingZeros_0 w
def W_J17_numberOfTrailingZeros_74 (D : JD) (d : Nat) (Q : JO → JH → Prop) (x0 : Int32) (x1 : Int32) (h : JH) : Prop :=
  Q (.inl (some (vI (x1 + ((Int32.toUInt32 x0 >>> (Int32.toUInt32 (1 : Int32) &&& Int32.toUInt32 31)).toInt32))))) h
theorem w_J17_numberOfTrailingZeros_74 {D : JD} {d : Nat} {Q : JO → JH → Prop} {x0 : Int32} {x1 : Int32} {h : JH} (w : W_J17_numberOfTrailingZeros_74 D d Q x0 x1 h) : JW D (d + 1) mJ17_numberOfTrailingZeros 74 [some (vI x0), some (vI x1)] [] h Q := by
  unfold W_J17_numberOfTrailingZeros_74 at w
  refine jw_iload_n (pc' := 75) rfl rfl ?_
  refine jw_iload_n (pc' := 76) rfl rfl ?_
  refine jw_iconst (pc' := 77) (x := (1 : Int32)) rfl rfl ?_
  refine jw_iushr (pc' := 78) rfl ?_
  refine jw_iadd (pc' := 79) rfl ?_
  exact jw_ireturn rfl rfl (rfl) w
def W_J17_numberOfTrailingZeros_62 (D : JD) (d : Nat) (Q : JO → JH → Prop) (x0 : Int32) (x1 : Int32) (h : JH) : Prop :=
  (x0 ≤ (4 : Int32) → W_J17_numberOfTrailingZeros_74 D d Q x0 x1 h) ∧ (¬ x0 ≤ (4 : Int32) → W_J17_numberOfTrailingZeros_74 D d Q ((Int32.toUInt32 x0 >>> (Int32.toUInt32 (2 : Int32) &&& Int32.toUInt32 31)).toInt32) (x1 + (2 : Int32)) h)
theorem w_J17_numberOfTrailingZeros_62 {D : JD} {d : Nat} {Q : JO → JH → Prop} {x0 : Int32} {x1 : Int32} {h : JH} (w : W_J17_numberOfTrailingZeros_62 D d Q x0 x1 h) : JW D (d + 1) mJ17_numberOfTrailingZeros 62 [some (vI x0), some (vI x1)] [] h Q := by
  unfold W_J17_numberOfTrailingZeros_62 at w
  refine jw_iload_n (pc' := 63) rfl rfl ?_
  refine jw_iconst (pc' := 64) (x := (4 : Int32)) rfl rfl ?_
  refine jw_icmp_le (tgt := 74) (pc' := 67) rfl rfl (fun c_1 => ?_) (fun c_1 => ?_)
  · replace w := w.1 c_1
    exact w_J17_numberOfTrailingZeros_74 w
  · replace w := w.2 c_1
    refine jw_iinc (pc' := 70) (y := x1 + (2 : Int32)) (ls' := [some (vI x0), some (vI (x1 + (2 : Int32)))]) rfl (by decide) rfl rfl rfl ?_
    refine jw_iload_n (pc' := 71) rfl rfl ?_
    refine jw_iconst (pc' := 72) (x := (2 : Int32)) rfl rfl ?_
    refine jw_iushr (pc' := 73) rfl ?_
    refine jw_istore_n (pc' := 74) (ls' := [some (vI ((Int32.toUInt32 x0 >>> (Int32.toUInt32 (2 : Int32) &&& Int32.toUInt32 31)).toInt32)), some (vI (x1 + (2 : Int32)))]) rfl (by decide) rfl ?_
    exact w_J17_numberOfTrailingZeros_74 w
def W_J17_numberOfTrailingZeros_49 (D : JD) (d : Nat) (Q : JO → JH → Prop) (x0 : Int32) (x1 : Int32) (h : JH) : Prop :=
  (x0 ≤ (16 : Int32) → W_J17_numberOfTrailingZeros_62 D d Q x0 x1 h) ∧ (¬ x0 ≤ (16 : Int32) → W_J17_numberOfTrailingZeros_62 D d Q ((Int32.toUInt32 x0 >>> (Int32.toUInt32 (4 : Int32) &&& Int32.toUInt32 31)).toInt32) (x1 + (4 : Int32)) h)
theorem w_J17_numberOfTrailingZeros_49 {D : JD} {d : Nat} {Q : JO → JH → Prop} {x0 : Int32} {x1 : Int32} {h : JH} (w : W_J17_numberOfTrailingZeros_49 D d Q x0 x1 h) : JW D (d + 1) mJ17_numberOfTrailingZeros 49 [some (vI x0), some (vI x1)] [] h Q := by
  unfold W_J17_numberOfTrailingZeros_49 at w
  refine jw_iload_n (pc' := 50) rfl rfl ?_
  refine jw_bipush (pc' := 52) (x := (16 : Int32)) rfl rfl ?_
  refine jw_icmp_le (tgt := 62) (pc' := 55) rfl rfl (fun c_1 => ?_) (fun c_1 => ?_)
  · replace w := w.1 c_1
    exact w_J17_numberOfTrailingZeros_62 w
  · replace w := w.2 c_1
    refine jw_iinc (pc' := 58) (y := x1 + (4 : Int32)) (ls' := [some (vI x0), some (vI (x1 + (4 : Int32)))]) rfl (by decide) rfl rfl rfl ?_
    refine jw_iload_n (pc' := 59) rfl rfl ?_
    refine jw_iconst (pc' := 60) (x := (4 : Int32)) rfl rfl ?_
    refine jw_iushr (pc' := 61) rfl ?_
    refine jw_istore_n (pc' := 62) (ls' := [some (vI ((Int32.toUInt32 x0 >>> (Int32.toUInt32 (4 : Int32) &&& Int32.toUInt32 31)).toInt32)), some (vI (x1 + (4 : Int32)))]) rfl (by decide) rfl ?_
    exact w_J17_numberOfTrailingZeros_62 w
def W_J17_numberOfTrailingZeros_34 (D : JD) (d : Nat) (Q : JO → JH → Prop) (x0 : Int32) (x1 : Int32) (h : JH) : Prop :=
  (x0 ≤ (256 : Int32) → W_J17_numberOfTrailingZeros_49 D d Q x0 x1 h) ∧ (¬ x0 ≤ (256 : Int32) → W_J17_numberOfTrailingZeros_49 D d Q ((Int32.toUInt32 x0 >>> (Int32.toUInt32 (8 : Int32) &&& Int32.toUInt32 31)).toInt32) (x1 + (8 : Int32)) h)
theorem w_J17_numberOfTrailingZeros_34 {D : JD} {d : Nat} {Q : JO → JH → Prop} {x0 : Int32} {x1 : Int32} {h : JH} (w : W_J17_numberOfTrailingZeros_34 D d Q x0 x1 h) : JW D (d + 1) mJ17_numberOfTrailingZeros 34 [some (vI x0), some (vI x1)] [] h Q := by
  unfold W_J17_numberOfTrailingZeros_34 at w
  refine jw_iload_n (pc' := 35) rfl rfl ?_
  refine jw_sipush (pc' := 38) (x := (256 : Int32)) rfl rfl ?_
  refine jw_icmp_le (tgt := 49) (pc' := 41) rfl rfl (fun c_1 => ?_) (fun c_1 => ?_)
  · replace w := w.1 c_1
    exact w_J17_numberOfTrailingZeros_49 w
  · replace w := w.2 c_1
    refine jw_iinc (pc' := 44) (y := x1 + (8 : Int32)) (ls' := [some (vI x0), some (vI (x1 + (8 : Int32)))]) rfl (by decide) rfl rfl rfl ?_
    refine jw_iload_n (pc' := 45) rfl rfl ?_
    refine jw_bipush (pc' := 47) (x := (8 : Int32)) rfl rfl ?_
    refine jw_iushr (pc' := 48) rfl ?_
    refine jw_istore_n (pc' := 49) (ls' := [some (vI ((Int32.toUInt32 x0 >>> (Int32.toUInt32 (8 : Int32) &&& Int32.toUInt32 31)).toInt32)), some (vI (x1 + (8 : Int32)))]) rfl (by decide) rfl ?_
    exact w_J17_numberOfTrailingZeros_49 w
def W_J17_numberOfTrailingZeros_0 (D : JD) (d : Nat) (Q : JO → JH → Prop) (x0 : Int32) (h : JH) : Prop :=
  (0 < ((x0 ^^^ (-1 : Int32)) &&& (x0 - (1 : Int32))) → (((x0 ^^^ (-1 : Int32)) &&& (x0 - (1 : Int32))) ≤ (65536 : Int32) → W_J17_numberOfTrailingZeros_34 D d Q ((x0 ^^^ (-1 : Int32)) &&& (x0 - (1 : Int32))) (1 : Int32) h) ∧ (¬ ((x0 ^^^ (-1 : Int32)) &&& (x0 - (1 : Int32))) ≤ (65536 : Int32) → W_J17_numberOfTrailingZeros_34 D d Q ((Int32.toUInt32 ((x0 ^^^ (-1 : Int32)) &&& (x0 - (1 : Int32))) >>> (Int32.toUInt32 (16 : Int32) &&& Int32.toUInt32 31)).toInt32) ((1 : Int32) + (16 : Int32)) h)) ∧ (¬ 0 < ((x0 ^^^ (-1 : Int32)) &&& (x0 - (1 : Int32))) → Q (.inl (some (vI (((x0 ^^^ (-1 : Int32)) &&& (x0 - (1 : Int32))) &&& (32 : Int32))))) h)
theorem w_J17_numberOfTrailingZeros_0 {D : JD} {d : Nat} {Q : JO → JH → Prop} {x0 : Int32} {h : JH} (w : W_J17_numberOfTrailingZeros_0 D d Q x0 h) : JW D (d + 1) mJ17_numberOfTrailingZeros 0 [some (vI x0), none] [] h Q := by
  unfold W_J17_numberOfTrailingZeros_0 at w
  refine jw_iload_n (pc' := 1) rfl rfl ?_
  refine jw_iconst (pc' := 2) (x := (-1 : Int32)) rfl rfl ?_
  refine jw_ixor (pc' := 3) rfl ?_
  refine jw_iload_n (pc' := 4) rfl rfl ?_
  refine jw_iconst (pc' := 5) (x := (1 : Int32)) rfl rfl ?_
  refine jw_isub (pc' := 6) rfl ?_
  refine jw_iand (pc' := 7) rfl ?_
  refine jw_istore_n (pc' := 8) (ls' := [some (vI ((x0 ^^^ (-1 : Int32)) &&& (x0 - (1 : Int32)))), none]) rfl (by decide) rfl ?_
  refine jw_iload_n (pc' := 9) rfl rfl ?_
  refine jw_if_gt (tgt := 17) (pc' := 12) rfl rfl (fun c_1 => ?_) (fun c_1 => ?_)
  · replace w := w.1 c_1
    refine jw_iconst (pc' := 18) (x := (1 : Int32)) rfl rfl ?_
    refine jw_istore_n (pc' := 19) (ls' := [some (vI ((x0 ^^^ (-1 : Int32)) &&& (x0 - (1 : Int32)))), some (vI (1 : Int32))]) rfl (by decide) rfl ?_
    refine jw_iload_n (pc' := 20) rfl rfl ?_
    refine jw_ldcwI (pc' := 23) (v := (65536 : Int32)) rfl rfl (by decide +kernel) ?_
    refine jw_icmp_le (tgt := 34) (pc' := 26) rfl rfl (fun c_2 => ?_) (fun c_2 => ?_)
    · replace w := w.1 c_2
      exact w_J17_numberOfTrailingZeros_34 w
    · replace w := w.2 c_2
      refine jw_iinc (pc' := 29) (y := (1 : Int32) + (16 : Int32)) (ls' := [some (vI ((x0 ^^^ (-1 : Int32)) &&& (x0 - (1 : Int32)))), some (vI ((1 : Int32) + (16 : Int32)))]) rfl (by decide) rfl rfl rfl ?_
      refine jw_iload_n (pc' := 30) rfl rfl ?_
      refine jw_bipush (pc' := 32) (x := (16 : Int32)) rfl rfl ?_
      refine jw_iushr (pc' := 33) rfl ?_
      refine jw_istore_n (pc' := 34) (ls' := [some (vI ((Int32.toUInt32 ((x0 ^^^ (-1 : Int32)) &&& (x0 - (1 : Int32))) >>> (Int32.toUInt32 (16 : Int32) &&& Int32.toUInt32 31)).toInt32)), some (vI ((1 : Int32) + (16 : Int32)))]) rfl (by decide) rfl ?_
      exact w_J17_numberOfTrailingZeros_34 w
  · replace w := w.2 c_1
    refine jw_iload_n (pc' := 13) rfl rfl ?_
    refine jw_bipush (pc' := 15) (x := (32 : Int32)) rfl rfl ?_
    refine jw_iand (pc' := 16) rfl ?_
    exact jw_ireturn rfl rfl (rfl) w
def T_J17_numberOfTrailingZeros (D : JD) (d : Nat) (Q : JO → JH → Prop) (x0 : Int32) (h : JH) : Prop := W_J17_numberOfTrailingZeros_0 D d Q x0 h
theorem t_J17_numberOfTrailingZeros {D : JD} {d : Nat} {Q : JO → JH → Prop} {x0 : Int32} {h : JH} (w : T_J17_numberOfTrailingZeros D d Q x0 h) : cJ17_numberOfTrailingZeros D (d + 1) x0 h Q := by
  unfold T_J17_numberOfTrailingZeros at w
  unfold cJ17_numberOfTrailingZeros
  exact w_J17_numberOfTrailingZeros_0 w
def W_J17_compare_19 (D : JD) (d : Nat) (Q : JO → JH → Prop) (s0 : Int32) (h : JH) : Prop :=
  Q (.inl (some (vI s0))) h
theorem w_J17_compare_19 {D : JD} {d : Nat} {Q : JO → JH → Prop} {s0 : Int32} {h : JH} (w : W_J17_compare_19 D d Q s0 h) : JW D (d + 1) mJ17_compare 19 [none, none] [vI s0] h Q := by
  unfold W_J17_compare_19 at w
  exact jw_ireturn rfl rfl (rfl) w
def W_J17_compare_0 (D : JD) (d : Nat) (Q : JO → JH → Prop) (x0 : Int32) (x1 : Int32) (h : JH) : Prop :=
  (x1 ≤ x0 → (¬ x0 = x1 → W_J17_compare_19 D d Q (1 : Int32) h) ∧ (x0 = x1 → W_J17_compare_19 D d Q (0 : Int32) h)) ∧ (¬ x1 ≤ x0 → W_J17_compare_19 D d Q (-1 : Int32) h)
theorem w_J17_compare_0 {D : JD} {d : Nat} {Q : JO → JH → Prop} {x0 : Int32} {x1 : Int32} {h : JH} (w : W_J17_compare_0 D d Q x0 x1 h) : JW D (d + 1) mJ17_compare 0 [some (vI x0), some (vI x1)] [] h Q := by
  unfold W_J17_compare_0 at w
  refine jw_iload_n (pc' := 1) rfl rfl ?_
  refine jw_iload_n (pc' := 2) rfl rfl ?_
  refine jw_icmp_ge (tgt := 9) (pc' := 5) rfl rfl (fun c_1 => ?_) (fun c_1 => ?_)
  · replace w := w.1 c_1
    refine jw_iload_n (pc' := 10) rfl rfl ?_
    refine jw_iload_n (pc' := 11) rfl rfl ?_
    refine jw_icmp_ne (tgt := 18) (pc' := 14) rfl rfl (fun c_2 => ?_) (fun c_2 => ?_)
    · replace w := w.1 c_2
      refine jw_iconst (pc' := 19) (x := (1 : Int32)) rfl rfl ?_
      refine jw_gen (ls' := [none, none]) (st' := [vI (1 : Int32)]) (trivial) (And.intro (Or.inl rfl) (trivial)) ?_
      exact w_J17_compare_19 w
    · replace w := w.2 c_2
      refine jw_iconst (pc' := 15) (x := (0 : Int32)) rfl rfl ?_
      refine jw_goto (pc' := 19) rfl rfl ?_
      refine jw_gen (ls' := [none, none]) (st' := [vI (0 : Int32)]) (trivial) (And.intro (Or.inl rfl) (trivial)) ?_
      exact w_J17_compare_19 w
  · replace w := w.2 c_1
    refine jw_iconst (pc' := 6) (x := (-1 : Int32)) rfl rfl ?_
    refine jw_goto (pc' := 19) rfl rfl ?_
    refine jw_gen (ls' := [none, none]) (st' := [vI (-1 : Int32)]) (trivial) (And.intro (Or.inl rfl) (trivial)) ?_
    exact w_J17_compare_19 w
def T_J17_compare (D : JD) (d : Nat) (Q : JO → JH → Prop) (x0 : Int32) (x1 : Int32) (h : JH) : Prop := W_J17_compare_0 D d Q x0 x1 h
theorem t_J17_compare {D : JD} {d : Nat} {Q : JO → JH → Prop} {x0 : Int32} {x1 : Int32} {h : JH} (w : T_J17_compare D d Q x0 x1 h) : cJ17_compare D (d + 1) x0 x1 h Q := by
  unfold T_J17_compare at w
  unfold cJ17_compare
  exact w_J17_compare_0 w
def W_J18_compare_21 (D : JD) (d : Nat) (Q : JO → JH → Prop) (s0 : Int32) (h : JH) : Prop :=
  Q (.inl (some (vI s0))) h
theorem w_J18_compare_21 {D : JD} {d : Nat} {Q : JO → JH → Prop} {s0 : Int32} {h : JH} (w : W_J18_compare_21 D d Q s0 h) : JW D (d + 1) mJ18_compare 21 [none, none, none, none] [vI s0] h Q := by
  unfold W_J18_compare_21 at w
  exact jw_ireturn rfl rfl (rfl) w
def W_J18_compare_0 (D : JD) (d : Nat) (Q : JO → JH → Prop) (y0 : Int64) (y2 : Int64) (h : JH) : Prop :=
  (0 ≤ (lg_cmp y0 y2) → (¬ (lg_cmp y0 y2) = 0 → W_J18_compare_21 D d Q (1 : Int32) h) ∧ ((lg_cmp y0 y2) = 0 → W_J18_compare_21 D d Q (0 : Int32) h)) ∧ (¬ 0 ≤ (lg_cmp y0 y2) → W_J18_compare_21 D d Q (-1 : Int32) h)
theorem w_J18_compare_0 {D : JD} {d : Nat} {Q : JO → JH → Prop} {y0 : Int64} {y2 : Int64} {h : JH} (w : W_J18_compare_0 D d Q y0 y2 h) : JW D (d + 1) mJ18_compare 0 [some (vL y0), none, some (vL y2), none] [] h Q := by
  unfold W_J18_compare_0 at w
  refine jw_lload_n (pc' := 1) rfl rfl ?_
  refine jw_lload_n (pc' := 2) rfl rfl ?_
  refine jw_lcmp (pc' := 3) rfl ?_
  refine jw_if_ge (tgt := 10) (pc' := 6) rfl rfl (fun c_1 => ?_) (fun c_1 => ?_)
  · replace w := w.1 c_1
    refine jw_lload_n (pc' := 11) rfl rfl ?_
    refine jw_lload_n (pc' := 12) rfl rfl ?_
    refine jw_lcmp (pc' := 13) rfl ?_
    refine jw_if_ne (tgt := 20) (pc' := 16) rfl rfl (fun c_2 => ?_) (fun c_2 => ?_)
    · replace w := w.1 c_2
      refine jw_iconst (pc' := 21) (x := (1 : Int32)) rfl rfl ?_
      refine jw_gen (ls' := [none, none, none, none]) (st' := [vI (1 : Int32)]) (trivial) (And.intro (Or.inl rfl) (trivial)) ?_
      exact w_J18_compare_21 w
    · replace w := w.2 c_2
      refine jw_iconst (pc' := 17) (x := (0 : Int32)) rfl rfl ?_
      refine jw_goto (pc' := 21) rfl rfl ?_
      refine jw_gen (ls' := [none, none, none, none]) (st' := [vI (0 : Int32)]) (trivial) (And.intro (Or.inl rfl) (trivial)) ?_
      exact w_J18_compare_21 w
  · replace w := w.2 c_1
    refine jw_iconst (pc' := 7) (x := (-1 : Int32)) rfl rfl ?_
    refine jw_goto (pc' := 21) rfl rfl ?_
    refine jw_gen (ls' := [none, none, none, none]) (st' := [vI (-1 : Int32)]) (trivial) (And.intro (Or.inl rfl) (trivial)) ?_
    exact w_J18_compare_21 w
def T_J18_compare (D : JD) (d : Nat) (Q : JO → JH → Prop) (y0 : Int64) (y2 : Int64) (h : JH) : Prop := W_J18_compare_0 D d Q y0 y2 h
theorem t_J18_compare {D : JD} {d : Nat} {Q : JO → JH → Prop} {y0 : Int64} {y2 : Int64} {h : JH} (w : T_J18_compare D d Q y0 y2 h) : cJ18_compare D (d + 1) y0 y2 h Q := by
  unfold T_J18_compare at w
  unfold cJ18_compare
  exact w_J18_compare_0 w
def W_J18_numberOfLeadingZeros_25 (D : JD) (d : Nat) (Q : JO → JH → Prop) (s0 : Int32) (h : JH) : Prop :=
  Q (.inl (some (vI s0))) h
theorem w_J18_numberOfLeadingZeros_25 {D : JD} {d : Nat} {Q : JO → JH → Prop} {s0 : Int32} {h : JH} (w : W_J18_numberOfLeadingZeros_25 D d Q s0 h) : JW D (d + 1) mJ18_numberOfLeadingZeros 25 [none, none, none] [vI s0] h Q := by
  unfold W_J18_numberOfLeadingZeros_25 at w
  exact jw_ireturn rfl rfl (rfl) w
def W_J18_numberOfLeadingZeros_0 (D : JD) (d : Nat) (Q : JO → JH → Prop) (y0 : Int64) (h : JH) : Prop :=
  (¬ (Int64.toInt32 ((Int64.toUInt64 y0 >>> ((Int32.toInt64 (32 : Int32)).toUInt64 &&& Int64.toUInt64 63)).toInt64)) = 0 → cJ17_numberOfLeadingZeros D d (Int64.toInt32 ((Int64.toUInt64 y0 >>> ((Int32.toInt64 (32 : Int32)).toUInt64 &&& Int64.toUInt64 63)).toInt64)) h (pI D h (fun v_4 h_2 => W_J18_numberOfLeadingZeros_25 D d Q v_4 h_2) (jth Q))) ∧ ((Int64.toInt32 ((Int64.toUInt64 y0 >>> ((Int32.toInt64 (32 : Int32)).toUInt64 &&& Int64.toUInt64 63)).toInt64)) = 0 → cJ17_numberOfLeadingZeros D d (Int64.toInt32 y0) h (pI D h (fun v_7 h_5 => W_J18_numberOfLeadingZeros_25 D d Q ((32 : Int32) + v_7) h_5) (jth Q)))
theorem w_J18_numberOfLeadingZeros_0 {D : JD} {d : Nat} {Q : JO → JH → Prop} {y0 : Int64} {h : JH} (w : W_J18_numberOfLeadingZeros_0 D d Q y0 h) : JW D (d + 1) mJ18_numberOfLeadingZeros 0 [some (vL y0), none, none] [] h Q := by
  unfold W_J18_numberOfLeadingZeros_0 at w
  refine jw_lload_n (pc' := 1) rfl rfl ?_
  refine jw_bipush (pc' := 3) (x := (32 : Int32)) rfl rfl ?_
  refine jw_lushr (pc' := 4) rfl ?_
  refine jw_l2i (pc' := 5) rfl ?_
  refine jw_istore_n (pc' := 6) (ls' := [some (vL y0), none, some (vI (Int64.toInt32 ((Int64.toUInt64 y0 >>> ((Int32.toInt64 (32 : Int32)).toUInt64 &&& Int64.toUInt64 63)).toInt64)))]) rfl (by decide) rfl ?_
  refine jw_iload_n (pc' := 7) rfl rfl ?_
  refine jw_if_ne (tgt := 21) (pc' := 10) rfl rfl (fun c_1 => ?_) (fun c_1 => ?_)
  · replace w := w.1 c_1
    refine jw_iload_n (pc' := 22) rfl rfl ?_
    refine jw_cI (st := []) (sa := [vI (Int64.toInt32 ((Int64.toUInt64 y0 >>> ((Int32.toInt64 (32 : Int32)).toUInt64 &&& Int64.toUInt64 63)).toInt64))]) okJ17_numberOfLeadingZeros rfl rfl rfl rfl rfl rfl (jstp_static (sa := [vI (Int64.toInt32 ((Int64.toUInt64 y0 >>> ((Int32.toInt64 (32 : Int32)).toUInt64 &&& Int64.toUInt64 63)).toInt64))]) (st := []) rfl rfl sJ17_numberOfLeadingZeros okJ17_numberOfLeadingZeros rfl rfl) w (fun v_4 h_2 _ _ w => ?_)
    refine jw_gen (ls' := [none, none, none]) (st' := [vI v_4]) (trivial) (And.intro (Or.inl rfl) (trivial)) ?_
    exact w_J18_numberOfLeadingZeros_25 w
  · replace w := w.2 c_1
    refine jw_bipush (pc' := 12) (x := (32 : Int32)) rfl rfl ?_
    refine jw_lload_n (pc' := 13) rfl rfl ?_
    refine jw_l2i (pc' := 14) rfl ?_
    refine jw_cI (st := [vI (32 : Int32)]) (sa := [vI (Int64.toInt32 y0)]) okJ17_numberOfLeadingZeros rfl rfl rfl rfl rfl rfl (jstp_static (sa := [vI (Int64.toInt32 y0)]) (st := [vI (32 : Int32)]) rfl rfl sJ17_numberOfLeadingZeros okJ17_numberOfLeadingZeros rfl rfl) w (fun v_7 h_5 _ _ w => ?_)
    refine jw_iadd (pc' := 18) rfl ?_
    refine jw_goto (pc' := 25) rfl rfl ?_
    refine jw_gen (ls' := [none, none, none]) (st' := [vI ((32 : Int32) + v_7)]) (trivial) (And.intro (Or.inl rfl) (trivial)) ?_
    exact w_J18_numberOfLeadingZeros_25 w
def T_J18_numberOfLeadingZeros (D : JD) (d : Nat) (Q : JO → JH → Prop) (y0 : Int64) (h : JH) : Prop := W_J18_numberOfLeadingZeros_0 D d Q y0 h
theorem t_J18_numberOfLeadingZeros {D : JD} {d : Nat} {Q : JO → JH → Prop} {y0 : Int64} {h : JH} (w : T_J18_numberOfLeadingZeros D d Q y0 h) : cJ18_numberOfLeadingZeros D (d + 1) y0 h Q := by
  unfold T_J18_numberOfLeadingZeros at w
  unfold cJ18_numberOfLeadingZeros
  exact w_J18_numberOfLeadingZeros_0 w
def W_J18_numberOfTrailingZeros_25 (D : JD) (d : Nat) (Q : JO → JH → Prop) (s0 : Int32) (h : JH) : Prop :=
  Q (.inl (some (vI s0))) h
theorem w_J18_numberOfTrailingZeros_25 {D : JD} {d : Nat} {Q : JO → JH → Prop} {s0 : Int32} {h : JH} (w : W_J18_numberOfTrailingZeros_25 D d Q s0 h) : JW D (d + 1) mJ18_numberOfTrailingZeros 25 [none, none, none] [vI s0] h Q := by
  unfold W_J18_numberOfTrailingZeros_25 at w
  exact jw_ireturn rfl rfl (rfl) w
def W_J18_numberOfTrailingZeros_0 (D : JD) (d : Nat) (Q : JO → JH → Prop) (y0 : Int64) (h : JH) : Prop :=
  (¬ (Int64.toInt32 y0) = 0 → cJ17_numberOfTrailingZeros D d (Int64.toInt32 y0) h (pI D h (fun v_4 h_2 => W_J18_numberOfTrailingZeros_25 D d Q v_4 h_2) (jth Q))) ∧ ((Int64.toInt32 y0) = 0 → cJ17_numberOfTrailingZeros D d (Int64.toInt32 ((Int64.toUInt64 y0 >>> ((Int32.toInt64 (32 : Int32)).toUInt64 &&& Int64.toUInt64 63)).toInt64)) h (pI D h (fun v_7 h_5 => W_J18_numberOfTrailingZeros_25 D d Q ((32 : Int32) + v_7) h_5) (jth Q)))
theorem w_J18_numberOfTrailingZeros_0 {D : JD} {d : Nat} {Q : JO → JH → Prop} {y0 : Int64} {h : JH} (w : W_J18_numberOfTrailingZeros_0 D d Q y0 h) : JW D (d + 1) mJ18_numberOfTrailingZeros 0 [some (vL y0), none, none] [] h Q := by
  unfold W_J18_numberOfTrailingZeros_0 at w
  refine jw_lload_n (pc' := 1) rfl rfl ?_
  refine jw_l2i (pc' := 2) rfl ?_
  refine jw_istore_n (pc' := 3) (ls' := [some (vL y0), none, some (vI (Int64.toInt32 y0))]) rfl (by decide) rfl ?_
  refine jw_iload_n (pc' := 4) rfl rfl ?_
  refine jw_if_ne (tgt := 21) (pc' := 7) rfl rfl (fun c_1 => ?_) (fun c_1 => ?_)
  · replace w := w.1 c_1
    refine jw_iload_n (pc' := 22) rfl rfl ?_
    refine jw_cI (st := []) (sa := [vI (Int64.toInt32 y0)]) okJ17_numberOfTrailingZeros rfl rfl rfl rfl rfl rfl (jstp_static (sa := [vI (Int64.toInt32 y0)]) (st := []) rfl rfl sJ17_numberOfTrailingZeros okJ17_numberOfTrailingZeros rfl rfl) w (fun v_4 h_2 _ _ w => ?_)
    refine jw_gen (ls' := [none, none, none]) (st' := [vI v_4]) (trivial) (And.intro (Or.inl rfl) (trivial)) ?_
    exact w_J18_numberOfTrailingZeros_25 w
  · replace w := w.2 c_1
    refine jw_bipush (pc' := 9) (x := (32 : Int32)) rfl rfl ?_
    refine jw_lload_n (pc' := 10) rfl rfl ?_
    refine jw_bipush (pc' := 12) (x := (32 : Int32)) rfl rfl ?_
    refine jw_lushr (pc' := 13) rfl ?_
    refine jw_l2i (pc' := 14) rfl ?_
    refine jw_cI (st := [vI (32 : Int32)]) (sa := [vI (Int64.toInt32 ((Int64.toUInt64 y0 >>> ((Int32.toInt64 (32 : Int32)).toUInt64 &&& Int64.toUInt64 63)).toInt64))]) okJ17_numberOfTrailingZeros rfl rfl rfl rfl rfl rfl (jstp_static (sa := [vI (Int64.toInt32 ((Int64.toUInt64 y0 >>> ((Int32.toInt64 (32 : Int32)).toUInt64 &&& Int64.toUInt64 63)).toInt64))]) (st := [vI (32 : Int32)]) rfl rfl sJ17_numberOfTrailingZeros okJ17_numberOfTrailingZeros rfl rfl) w (fun v_7 h_5 _ _ w => ?_)
    refine jw_iadd (pc' := 18) rfl ?_
    refine jw_goto (pc' := 25) rfl rfl ?_
    refine jw_gen (ls' := [none, none, none]) (st' := [vI ((32 : Int32) + v_7)]) (trivial) (And.intro (Or.inl rfl) (trivial)) ?_
    exact w_J18_numberOfTrailingZeros_25 w
def T_J18_numberOfTrailingZeros (D : JD) (d : Nat) (Q : JO → JH → Prop) (y0 : Int64) (h : JH) : Prop := W_J18_numberOfTrailingZeros_0 D d Q y0 h
theorem t_J18_numberOfTrailingZeros {D : JD} {d : Nat} {Q : JO → JH → Prop} {y0 : Int64} {h : JH} (w : T_J18_numberOfTrailingZeros D d Q y0 h) : cJ18_numberOfTrailingZeros D (d + 1) y0 h Q := by
  unfold T_J18_numberOfTrailingZeros at w
  unfold cJ18_numberOfTrailingZeros
  exact w_J18_numberOfTrailingZeros_0 w
def W_J19_getLongUnaligned_0 (D : JD) (d : Nat) (Q : JO → JH → Prop) (r0 : Nat) (r1 : Nat) (y2 : Int64) (h : JH) : Prop :=
  (¬ (lg_cmp (y2 &&& (7 : Int64)) (0 : Int64)) = 0 → (¬ (lg_cmp (y2 &&& (3 : Int64)) (0 : Int64)) = 0 → (¬ (lg_cmp (y2 &&& (1 : Int64)) (0 : Int64)) = 0 → False) ∧ ((lg_cmp (y2 &&& (1 : Int64)) (0 : Int64)) = 0 → False)) ∧ ((lg_cmp (y2 &&& (3 : Int64)) (0 : Int64)) = 0 → False)) ∧ ((lg_cmp (y2 &&& (7 : Int64)) (0 : Int64)) = 0 → False)
theorem w_J19_getLongUnaligned_0 {D : JD} {d : Nat} {Q : JO → JH → Prop} {r0 : Nat} {r1 : Nat} {y2 : Int64} {h : JH} (w : W_J19_getLongUnaligned_0 D d Q r0 r1 y2 h) : JW D (d + 1) mJ19_getLongUnaligned 0 [some (vR 0 r0), some (vR 59 r1), some (vL y2), none] [] h Q := by
  unfold W_J19_getLongUnaligned_0 at w
  refine jw_lload_n (pc' := 1) rfl rfl ?_
  refine jw_ldc2 (pc' := 4) (v := (7 : Int64)) rfl rfl ?_
  refine jw_land (pc' := 5) rfl ?_
  refine jw_lconst (pc' := 6) (x := (0 : Int64)) rfl rfl ?_
  refine jw_lcmp (pc' := 7) rfl ?_
  refine jw_if_ne (tgt := 17) (pc' := 10) rfl rfl (fun c_1 => ?_) (fun c_1 => ?_)
  · replace w := w.1 c_1
    refine jw_lload_n (pc' := 18) rfl rfl ?_
    refine jw_ldc2 (pc' := 21) (v := (3 : Int64)) rfl rfl ?_
    refine jw_land (pc' := 22) rfl ?_
    refine jw_lconst (pc' := 23) (x := (0 : Int64)) rfl rfl ?_
    refine jw_lcmp (pc' := 24) rfl ?_
    refine jw_if_ne (tgt := 47) (pc' := 27) rfl rfl (fun c_2 => ?_) (fun c_2 => ?_)
    · replace w := w.1 c_2
      refine jw_lload_n (pc' := 48) rfl rfl ?_
      refine jw_lconst (pc' := 49) (x := (1 : Int64)) rfl rfl ?_
      refine jw_land (pc' := 50) rfl ?_
      refine jw_lconst (pc' := 51) (x := (0 : Int64)) rfl rfl ?_
      refine jw_lcmp (pc' := 52) rfl ?_
      refine jw_if_ne (tgt := 95) (pc' := 55) rfl rfl (fun c_3 => ?_) (fun c_3 => ?_)
      · replace w := w.1 c_3
        refine jw_aload_n (pc' := 96) rfl rfl ?_
        refine jw_aload_n (pc' := 97) rfl rfl ?_
        refine jw_lload_n (pc' := 98) rfl rfl ?_
        exact w.elim
      · replace w := w.2 c_3
        refine jw_aload_n (pc' := 56) rfl rfl ?_
        refine jw_aload_n (pc' := 57) rfl rfl ?_
        refine jw_lload_n (pc' := 58) rfl rfl ?_
        exact w.elim
    · replace w := w.2 c_2
      refine jw_aload_n (pc' := 28) rfl rfl ?_
      refine jw_aload_n (pc' := 29) rfl rfl ?_
      refine jw_lload_n (pc' := 30) rfl rfl ?_
      exact w.elim
  · replace w := w.2 c_1
    refine jw_aload_n (pc' := 11) rfl rfl ?_
    refine jw_aload_n (pc' := 12) rfl rfl ?_
    refine jw_lload_n (pc' := 13) rfl rfl ?_
    exact w.elim
def T_J19_getLongUnaligned (D : JD) (d : Nat) (Q : JO → JH → Prop) (r0 : Nat) (r1 : Nat) (y2 : Int64) (h : JH) : Prop := W_J19_getLongUnaligned_0 D d Q r0 r1 y2 h
theorem t_J19_getLongUnaligned {D : JD} {d : Nat} {Q : JO → JH → Prop} {r0 : Nat} {r1 : Nat} {y2 : Int64} {h : JH} (w : T_J19_getLongUnaligned D d Q r0 r1 y2 h) : cJ19_getLongUnaligned D (d + 1) r0 r1 y2 h Q := by
  unfold T_J19_getLongUnaligned at w
  unfold cJ19_getLongUnaligned
  exact w_J19_getLongUnaligned_0 w
def W_J19_makeLong_0 (D : JD) (d : Nat) (Q : JO → JH → Prop) (x0 : Int32) (x1 : Int32) (h : JH) : Prop :=
  cJ19_toUnsignedLong D d x0 h (pL D h (fun v_2 h_1 => cJ19_pickPos D d (32 : Int32) (0 : Int32) h_1 (pI D h_1 (fun v_5 h_3 => cJ19_toUnsignedLong D d x1 h_3 (pL D h_3 (fun v_7 h_6 => cJ19_pickPos D d (32 : Int32) (32 : Int32) h_6 (pI D h_6 (fun v_10 h_8 => Q (.inl (some (vL ((v_2 <<< (Int32.toInt64 v_5 &&& 63)) ||| (v_7 <<< (Int32.toInt64 v_10 &&& 63)))))) h_8) (jth Q))) (jth Q))) (jth Q))) (jth Q))
theorem w_J19_makeLong_0 {D : JD} {d : Nat} {Q : JO → JH → Prop} {x0 : Int32} {x1 : Int32} {h : JH} (w : W_J19_makeLong_0 D d Q x0 x1 h) : JW D (d + 1) mJ19_makeLong 0 [some (vI x0), some (vI x1)] [] h Q := by
  unfold W_J19_makeLong_0 at w
  refine jw_iload_n (pc' := 1) rfl rfl ?_
  refine jw_cL (st := []) (sa := [vI x0]) okJ19_toUnsignedLong rfl rfl rfl rfl rfl rfl (jstp_static (sa := [vI x0]) (st := []) rfl rfl sJ19_toUnsignedLong okJ19_toUnsignedLong rfl rfl) w (fun v_2 h_1 _ _ w => ?_)
  refine jw_bipush (pc' := 6) (x := (32 : Int32)) rfl rfl ?_
  refine jw_iconst (pc' := 7) (x := (0 : Int32)) rfl rfl ?_
  refine jw_cI (st := [vL v_2]) (sa := [vI (32 : Int32), vI (0 : Int32)]) okJ19_pickPos rfl rfl rfl rfl rfl rfl (jstp_static (sa := [vI (32 : Int32), vI (0 : Int32)]) (st := [vL v_2]) rfl rfl sJ19_pickPos okJ19_pickPos rfl rfl) w (fun v_5 h_3 _ _ w => ?_)
  refine jw_lshl (pc' := 11) rfl ?_
  refine jw_iload_n (pc' := 12) rfl rfl ?_
  refine jw_cL (st := [vL (v_2 <<< (Int32.toInt64 v_5 &&& 63))]) (sa := [vI x1]) okJ19_toUnsignedLong rfl rfl rfl rfl rfl rfl (jstp_static (sa := [vI x1]) (st := [vL (v_2 <<< (Int32.toInt64 v_5 &&& 63))]) rfl rfl sJ19_toUnsignedLong okJ19_toUnsignedLong rfl rfl) w (fun v_7 h_6 _ _ w => ?_)
  refine jw_bipush (pc' := 17) (x := (32 : Int32)) rfl rfl ?_
  refine jw_bipush (pc' := 19) (x := (32 : Int32)) rfl rfl ?_
  refine jw_cI (st := [vL v_7, vL (v_2 <<< (Int32.toInt64 v_5 &&& 63))]) (sa := [vI (32 : Int32), vI (32 : Int32)]) okJ19_pickPos rfl rfl rfl rfl rfl rfl (jstp_static (sa := [vI (32 : Int32), vI (32 : Int32)]) (st := [vL v_7, vL (v_2 <<< (Int32.toInt64 v_5 &&& 63))]) rfl rfl sJ19_pickPos okJ19_pickPos rfl rfl) w (fun v_10 h_8 _ _ w => ?_)
  refine jw_lshl (pc' := 23) rfl ?_
  refine jw_lor (pc' := 24) rfl ?_
  exact jw_lreturn rfl rfl w
def T_J19_makeLong (D : JD) (d : Nat) (Q : JO → JH → Prop) (x0 : Int32) (x1 : Int32) (h : JH) : Prop := W_J19_makeLong_0 D d Q x0 x1 h
theorem t_J19_makeLong {D : JD} {d : Nat} {Q : JO → JH → Prop} {x0 : Int32} {x1 : Int32} {h : JH} (w : T_J19_makeLong D d Q x0 x1 h) : cJ19_makeLong D (d + 1) x0 x1 h Q := by
  unfold T_J19_makeLong at w
  unfold cJ19_makeLong
  exact w_J19_makeLong_0 w
def W_J19_toUnsignedLong_0 (D : JD) (d : Nat) (Q : JO → JH → Prop) (x0 : Int32) (h : JH) : Prop :=
  Q (.inl (some (vL ((Int32.toInt64 x0) &&& (4294967295 : Int64))))) h
theorem w_J19_toUnsignedLong_0 {D : JD} {d : Nat} {Q : JO → JH → Prop} {x0 : Int32} {h : JH} (w : W_J19_toUnsignedLong_0 D d Q x0 h) : JW D (d + 1) mJ19_toUnsignedLong 0 [some (vI x0)] [] h Q := by
  unfold W_J19_toUnsignedLong_0 at w
  refine jw_iload_n (pc' := 1) rfl rfl ?_
  refine jw_i2l (pc' := 2) rfl ?_
  refine jw_ldc2 (pc' := 5) (v := (4294967295 : Int64)) rfl rfl ?_
  refine jw_land (pc' := 6) rfl ?_
  exact jw_lreturn rfl rfl w
def T_J19_toUnsignedLong (D : JD) (d : Nat) (Q : JO → JH → Prop) (x0 : Int32) (h : JH) : Prop := W_J19_toUnsignedLong_0 D d Q x0 h
theorem t_J19_toUnsignedLong {D : JD} {d : Nat} {Q : JO → JH → Prop} {x0 : Int32} {h : JH} (w : T_J19_toUnsignedLong D d Q x0 h) : cJ19_toUnsignedLong D (d + 1) x0 h Q := by
  unfold T_J19_toUnsignedLong at w
  unfold cJ19_toUnsignedLong
  exact w_J19_toUnsignedLong_0 w
def W_J19_makeLong_2_0 (D : JD) (d : Nat) (Q : JO → JH → Prop) (x0 : Int32) (x1 : Int32) (x2 : Int32) (x3 : Int32) (h : JH) : Prop :=
  cJ19_toUnsignedLong_2 D d x0 h (pL D h (fun v_2 h_1 => cJ19_pickPos D d (48 : Int32) (0 : Int32) h_1 (pI D h_1 (fun v_5 h_3 => cJ19_toUnsignedLong_2 D d x1 h_3 (pL D h_3 (fun v_7 h_6 => cJ19_pickPos D d (48 : Int32) (16 : Int32) h_6 (pI D h_6 (fun v_10 h_8 => cJ19_toUnsignedLong_2 D d x2 h_8 (pL D h_8 (fun v_12 h_11 => cJ19_pickPos D d (48 : Int32) (32 : Int32) h_11 (pI D h_11 (fun v_15 h_13 => cJ19_toUnsignedLong_2 D d x3 h_13 (pL D h_13 (fun v_17 h_16 => cJ19_pickPos D d (48 : Int32) (48 : Int32) h_16 (pI D h_16 (fun v_20 h_18 => Q (.inl (some (vL ((((v_2 <<< (Int32.toInt64 v_5 &&& 63)) ||| (v_7 <<< (Int32.toInt64 v_10 &&& 63))) ||| (v_12 <<< (Int32.toInt64 v_15 &&& 63))) ||| (v_17 <<< (Int32.toInt64 v_20 &&& 63)))))) h_18) (jth Q))) (jth Q))) (jth Q))) (jth Q))) (jth Q))) (jth Q))) (jth Q))) (jth Q))
theorem w_J19_makeLong_2_0 {D : JD} {d : Nat} {Q : JO → JH → Prop} {x0 : Int32} {x1 : Int32} {x2 : Int32} {x3 : Int32} {h : JH} (w : W_J19_makeLong_2_0 D d Q x0 x1 x2 x3 h) : JW D (d + 1) mJ19_makeLong_2 0 [some (vI x0), some (vI x1), some (vI x2), some (vI x3)] [] h Q := by
  unfold W_J19_makeLong_2_0 at w
  refine jw_iload_n (pc' := 1) rfl rfl ?_
  refine jw_cL (st := []) (sa := [vI x0]) okJ19_toUnsignedLong_2 rfl rfl rfl rfl rfl rfl (jstp_static (sa := [vI x0]) (st := []) rfl rfl sJ19_toUnsignedLong_2 okJ19_toUnsignedLong_2 rfl rfl) w (fun v_2 h_1 _ _ w => ?_)
  refine jw_bipush (pc' := 6) (x := (48 : Int32)) rfl rfl ?_
  refine jw_iconst (pc' := 7) (x := (0 : Int32)) rfl rfl ?_
  refine jw_cI (st := [vL v_2]) (sa := [vI (48 : Int32), vI (0 : Int32)]) okJ19_pickPos rfl rfl rfl rfl rfl rfl (jstp_static (sa := [vI (48 : Int32), vI (0 : Int32)]) (st := [vL v_2]) rfl rfl sJ19_pickPos okJ19_pickPos rfl rfl) w (fun v_5 h_3 _ _ w => ?_)
  refine jw_lshl (pc' := 11) rfl ?_
  refine jw_iload_n (pc' := 12) rfl rfl ?_
  refine jw_cL (st := [vL (v_2 <<< (Int32.toInt64 v_5 &&& 63))]) (sa := [vI x1]) okJ19_toUnsignedLong_2 rfl rfl rfl rfl rfl rfl (jstp_static (sa := [vI x1]) (st := [vL (v_2 <<< (Int32.toInt64 v_5 &&& 63))]) rfl rfl sJ19_toUnsignedLong_2 okJ19_toUnsignedLong_2 rfl rfl) w (fun v_7 h_6 _ _ w => ?_)
  refine jw_bipush (pc' := 17) (x := (48 : Int32)) rfl rfl ?_
  refine jw_bipush (pc' := 19) (x := (16 : Int32)) rfl rfl ?_
  refine jw_cI (st := [vL v_7, vL (v_2 <<< (Int32.toInt64 v_5 &&& 63))]) (sa := [vI (48 : Int32), vI (16 : Int32)]) okJ19_pickPos rfl rfl rfl rfl rfl rfl (jstp_static (sa := [vI (48 : Int32), vI (16 : Int32)]) (st := [vL v_7, vL (v_2 <<< (Int32.toInt64 v_5 &&& 63))]) rfl rfl sJ19_pickPos okJ19_pickPos rfl rfl) w (fun v_10 h_8 _ _ w => ?_)
  refine jw_lshl (pc' := 23) rfl ?_
  refine jw_lor (pc' := 24) rfl ?_
  refine jw_iload_n (pc' := 25) rfl rfl ?_
  refine jw_cL (st := [vL ((v_2 <<< (Int32.toInt64 v_5 &&& 63)) ||| (v_7 <<< (Int32.toInt64 v_10 &&& 63)))]) (sa := [vI x2]) okJ19_toUnsignedLong_2 rfl rfl rfl rfl rfl rfl (jstp_static (sa := [vI x2]) (st := [vL ((v_2 <<< (Int32.toInt64 v_5 &&& 63)) ||| (v_7 <<< (Int32.toInt64 v_10 &&& 63)))]) rfl rfl sJ19_toUnsignedLong_2 okJ19_toUnsignedLong_2 rfl rfl) w (fun v_12 h_11 _ _ w => ?_)
  refine jw_bipush (pc' := 30) (x := (48 : Int32)) rfl rfl ?_
  refine jw_bipush (pc' := 32) (x := (32 : Int32)) rfl rfl ?_
  refine jw_cI (st := [vL v_12, vL ((v_2 <<< (Int32.toInt64 v_5 &&& 63)) ||| (v_7 <<< (Int32.toInt64 v_10 &&& 63)))]) (sa := [vI (48 : Int32), vI (32 : Int32)]) okJ19_pickPos rfl rfl rfl rfl rfl rfl (jstp_static (sa := [vI (48 : Int32), vI (32 : Int32)]) (st := [vL v_12, vL ((v_2 <<< (Int32.toInt64 v_5 &&& 63)) ||| (v_7 <<< (Int32.toInt64 v_10 &&& 63)))]) rfl rfl sJ19_pickPos okJ19_pickPos rfl rfl) w (fun v_15 h_13 _ _ w => ?_)
  refine jw_lshl (pc' := 36) rfl ?_
  refine jw_lor (pc' := 37) rfl ?_
  refine jw_iload_n (pc' := 38) rfl rfl ?_
  refine jw_cL (st := [vL (((v_2 <<< (Int32.toInt64 v_5 &&& 63)) ||| (v_7 <<< (Int32.toInt64 v_10 &&& 63))) ||| (v_12 <<< (Int32.toInt64 v_15 &&& 63)))]) (sa := [vI x3]) okJ19_toUnsignedLong_2 rfl rfl rfl rfl rfl rfl (jstp_static (sa := [vI x3]) (st := [vL (((v_2 <<< (Int32.toInt64 v_5 &&& 63)) ||| (v_7 <<< (Int32.toInt64 v_10 &&& 63))) ||| (v_12 <<< (Int32.toInt64 v_15 &&& 63)))]) rfl rfl sJ19_toUnsignedLong_2 okJ19_toUnsignedLong_2 rfl rfl) w (fun v_17 h_16 _ _ w => ?_)
  refine jw_bipush (pc' := 43) (x := (48 : Int32)) rfl rfl ?_
  refine jw_bipush (pc' := 45) (x := (48 : Int32)) rfl rfl ?_
  refine jw_cI (st := [vL v_17, vL (((v_2 <<< (Int32.toInt64 v_5 &&& 63)) ||| (v_7 <<< (Int32.toInt64 v_10 &&& 63))) ||| (v_12 <<< (Int32.toInt64 v_15 &&& 63)))]) (sa := [vI (48 : Int32), vI (48 : Int32)]) okJ19_pickPos rfl rfl rfl rfl rfl rfl (jstp_static (sa := [vI (48 : Int32), vI (48 : Int32)]) (st := [vL v_17, vL (((v_2 <<< (Int32.toInt64 v_5 &&& 63)) ||| (v_7 <<< (Int32.toInt64 v_10 &&& 63))) ||| (v_12 <<< (Int32.toInt64 v_15 &&& 63)))]) rfl rfl sJ19_pickPos okJ19_pickPos rfl rfl) w (fun v_20 h_18 _ _ w => ?_)
  refine jw_lshl (pc' := 49) rfl ?_
  refine jw_lor (pc' := 50) rfl ?_
  exact jw_lreturn rfl rfl w
def T_J19_makeLong_2 (D : JD) (d : Nat) (Q : JO → JH → Prop) (x0 : Int32) (x1 : Int32) (x2 : Int32) (x3 : Int32) (h : JH) : Prop := W_J19_makeLong_2_0 D d Q x0 x1 x2 x3 h
theorem t_J19_makeLong_2 {D : JD} {d : Nat} {Q : JO → JH → Prop} {x0 : Int32} {x1 : Int32} {x2 : Int32} {x3 : Int32} {h : JH} (w : T_J19_makeLong_2 D d Q x0 x1 x2 x3 h) : cJ19_makeLong_2 D (d + 1) x0 x1 x2 x3 h Q := by
  unfold T_J19_makeLong_2 at w
  unfold cJ19_makeLong_2
  exact w_J19_makeLong_2_0 w
def W_J19_toUnsignedLong_2_0 (D : JD) (d : Nat) (Q : JO → JH → Prop) (x0 : Int32) (h : JH) : Prop :=
  Q (.inl (some (vL ((Int32.toInt64 x0) &&& (65535 : Int64))))) h
theorem w_J19_toUnsignedLong_2_0 {D : JD} {d : Nat} {Q : JO → JH → Prop} {x0 : Int32} {h : JH} (w : W_J19_toUnsignedLong_2_0 D d Q x0 h) : JW D (d + 1) mJ19_toUnsignedLong_2 0 [some (vI x0)] [] h Q := by
  unfold W_J19_toUnsignedLong_2_0 at w
  refine jw_iload_n (pc' := 1) rfl rfl ?_
  refine jw_i2l (pc' := 2) rfl ?_
  refine jw_ldc2 (pc' := 5) (v := (65535 : Int64)) rfl rfl ?_
  refine jw_land (pc' := 6) rfl ?_
  exact jw_lreturn rfl rfl w
def T_J19_toUnsignedLong_2 (D : JD) (d : Nat) (Q : JO → JH → Prop) (x0 : Int32) (h : JH) : Prop := W_J19_toUnsignedLong_2_0 D d Q x0 h
theorem t_J19_toUnsignedLong_2 {D : JD} {d : Nat} {Q : JO → JH → Prop} {x0 : Int32} {h : JH} (w : T_J19_toUnsignedLong_2 D d Q x0 h) : cJ19_toUnsignedLong_2 D (d + 1) x0 h Q := by
  unfold T_J19_toUnsignedLong_2 at w
  unfold cJ19_toUnsignedLong_2
  exact w_J19_toUnsignedLong_2_0 w
def W_J19_makeLong_3_0 (D : JD) (d : Nat) (Q : JO → JH → Prop) (x0 : Int32) (x1 : Int32) (x2 : Int32) (x3 : Int32) (x4 : Int32) (x5 : Int32) (x6 : Int32) (x7 : Int32) (h : JH) : Prop :=
  cJ19_toUnsignedLong_3 D d x0 h (pL D h (fun v_2 h_1 => cJ19_pickPos D d (56 : Int32) (0 : Int32) h_1 (pI D h_1 (fun v_5 h_3 => cJ19_toUnsignedLong_3 D d x1 h_3 (pL D h_3 (fun v_7 h_6 => cJ19_pickPos D d (56 : Int32) (8 : Int32) h_6 (pI D h_6 (fun v_10 h_8 => cJ19_toUnsignedLong_3 D d x2 h_8 (pL D h_8 (fun v_12 h_11 => cJ19_pickPos D d (56 : Int32) (16 : Int32) h_11 (pI D h_11 (fun v_15 h_13 => cJ19_toUnsignedLong_3 D d x3 h_13 (pL D h_13 (fun v_17 h_16 => cJ19_pickPos D d (56 : Int32) (24 : Int32) h_16 (pI D h_16 (fun v_20 h_18 => cJ19_toUnsignedLong_3 D d x4 h_18 (pL D h_18 (fun v_22 h_21 => cJ19_pickPos D d (56 : Int32) (32 : Int32) h_21 (pI D h_21 (fun v_25 h_23 => cJ19_toUnsignedLong_3 D d x5 h_23 (pL D h_23 (fun v_27 h_26 => cJ19_pickPos D d (56 : Int32) (40 : Int32) h_26 (pI D h_26 (fun v_30 h_28 => cJ19_toUnsignedLong_3 D d x6 h_28 (pL D h_28 (fun v_32 h_31 => cJ19_pickPos D d (56 : Int32) (48 : Int32) h_31 (pI D h_31 (fun v_35 h_33 => cJ19_toUnsignedLong_3 D d x7 h_33 (pL D h_33 (fun v_37 h_36 => cJ19_pickPos D d (56 : Int32) (56 : Int32) h_36 (pI D h_36 (fun v_40 h_38 => Q (.inl (some (vL ((((((((v_2 <<< (Int32.toInt64 v_5 &&& 63)) ||| (v_7 <<< (Int32.toInt64 v_10 &&& 63))) ||| (v_12 <<< (Int32.toInt64 v_15 &&& 63))) ||| (v_17 <<< (Int32.toInt64 v_20 &&& 63))) ||| (v_22 <<< (Int32.toInt64 v_25 &&& 63))) ||| (v_27 <<< (Int32.toInt64 v_30 &&& 63))) ||| (v_32 <<< (Int32.toInt64 v_35 &&& 63))) ||| (v_37 <<< (Int32.toInt64 v_40 &&& 63)))))) h_38) (jth Q))) (jth Q))) (jth Q))) (jth Q))) (jth Q))) (jth Q))) (jth Q))) (jth Q))) (jth Q))) (jth Q))) (jth Q))) (jth Q))) (jth Q))) (jth Q))) (jth Q))) (jth Q))
theorem w_J19_makeLong_3_0 {D : JD} {d : Nat} {Q : JO → JH → Prop} {x0 : Int32} {x1 : Int32} {x2 : Int32} {x3 : Int32} {x4 : Int32} {x5 : Int32} {x6 : Int32} {x7 : Int32} {h : JH} (w : W_J19_makeLong_3_0 D d Q x0 x1 x2 x3 x4 x5 x6 x7 h) : JW D (d + 1) mJ19_makeLong_3 0 [some (vI x0), some (vI x1), some (vI x2), some (vI x3), some (vI x4), some (vI x5), some (vI x6), some (vI x7)] [] h Q := by
  unfold W_J19_makeLong_3_0 at w
  refine jw_iload_n (pc' := 1) rfl rfl ?_
  refine jw_cL (st := []) (sa := [vI x0]) okJ19_toUnsignedLong_3 rfl rfl rfl rfl rfl rfl (jstp_static (sa := [vI x0]) (st := []) rfl rfl sJ19_toUnsignedLong_3 okJ19_toUnsignedLong_3 rfl rfl) w (fun v_2 h_1 _ _ w => ?_)
  refine jw_bipush (pc' := 6) (x := (56 : Int32)) rfl rfl ?_
  refine jw_iconst (pc' := 7) (x := (0 : Int32)) rfl rfl ?_
  refine jw_cI (st := [vL v_2]) (sa := [vI (56 : Int32), vI (0 : Int32)]) okJ19_pickPos rfl rfl rfl rfl rfl rfl (jstp_static (sa := [vI (56 : Int32), vI (0 : Int32)]) (st := [vL v_2]) rfl rfl sJ19_pickPos okJ19_pickPos rfl rfl) w (fun v_5 h_3 _ _ w => ?_)
  refine jw_lshl (pc' := 11) rfl ?_
  refine jw_iload_n (pc' := 12) rfl rfl ?_
  refine jw_cL (st := [vL (v_2 <<< (Int32.toInt64 v_5 &&& 63))]) (sa := [vI x1]) okJ19_toUnsignedLong_3 rfl rfl rfl rfl rfl rfl (jstp_static (sa := [vI x1]) (st := [vL (v_2 <<< (Int32.toInt64 v_5 &&& 63))]) rfl rfl sJ19_toUnsignedLong_3 okJ19_toUnsignedLong_3 rfl rfl) w (fun v_7 h_6 _ _ w => ?_)
  refine jw_bipush (pc' := 17) (x := (56 : Int32)) rfl rfl ?_
  refine jw_bipush (pc' := 19) (x := (8 : Int32)) rfl rfl ?_
  refine jw_cI (st := [vL v_7, vL (v_2 <<< (Int32.toInt64 v_5 &&& 63))]) (sa := [vI (56 : Int32), vI (8 : Int32)]) okJ19_pickPos rfl rfl rfl rfl rfl rfl (jstp_static (sa := [vI (56 : Int32), vI (8 : Int32)]) (st := [vL v_7, vL (v_2 <<< (Int32.toInt64 v_5 &&& 63))]) rfl rfl sJ19_pickPos okJ19_pickPos rfl rfl) w (fun v_10 h_8 _ _ w => ?_)
  refine jw_lshl (pc' := 23) rfl ?_
  refine jw_lor (pc' := 24) rfl ?_
  refine jw_iload_n (pc' := 25) rfl rfl ?_
  refine jw_cL (st := [vL ((v_2 <<< (Int32.toInt64 v_5 &&& 63)) ||| (v_7 <<< (Int32.toInt64 v_10 &&& 63)))]) (sa := [vI x2]) okJ19_toUnsignedLong_3 rfl rfl rfl rfl rfl rfl (jstp_static (sa := [vI x2]) (st := [vL ((v_2 <<< (Int32.toInt64 v_5 &&& 63)) ||| (v_7 <<< (Int32.toInt64 v_10 &&& 63)))]) rfl rfl sJ19_toUnsignedLong_3 okJ19_toUnsignedLong_3 rfl rfl) w (fun v_12 h_11 _ _ w => ?_)
  refine jw_bipush (pc' := 30) (x := (56 : Int32)) rfl rfl ?_
  refine jw_bipush (pc' := 32) (x := (16 : Int32)) rfl rfl ?_
  refine jw_cI (st := [vL v_12, vL ((v_2 <<< (Int32.toInt64 v_5 &&& 63)) ||| (v_7 <<< (Int32.toInt64 v_10 &&& 63)))]) (sa := [vI (56 : Int32), vI (16 : Int32)]) okJ19_pickPos rfl rfl rfl rfl rfl rfl (jstp_static (sa := [vI (56 : Int32), vI (16 : Int32)]) (st := [vL v_12, vL ((v_2 <<< (Int32.toInt64 v_5 &&& 63)) ||| (v_7 <<< (Int32.toInt64 v_10 &&& 63)))]) rfl rfl sJ19_pickPos okJ19_pickPos rfl rfl) w (fun v_15 h_13 _ _ w => ?_)
  refine jw_lshl (pc' := 36) rfl ?_
  refine jw_lor (pc' := 37) rfl ?_
  refine jw_iload_n (pc' := 38) rfl rfl ?_
  refine jw_cL (st := [vL (((v_2 <<< (Int32.toInt64 v_5 &&& 63)) ||| (v_7 <<< (Int32.toInt64 v_10 &&& 63))) ||| (v_12 <<< (Int32.toInt64 v_15 &&& 63)))]) (sa := [vI x3]) okJ19_toUnsignedLong_3 rfl rfl rfl rfl rfl rfl (jstp_static (sa := [vI x3]) (st := [vL (((v_2 <<< (Int32.toInt64 v_5 &&& 63)) ||| (v_7 <<< (Int32.toInt64 v_10 &&& 63))) ||| (v_12 <<< (Int32.toInt64 v_15 &&& 63)))]) rfl rfl sJ19_toUnsignedLong_3 okJ19_toUnsignedLong_3 rfl rfl) w (fun v_17 h_16 _ _ w => ?_)
  refine jw_bipush (pc' := 43) (x := (56 : Int32)) rfl rfl ?_
  refine jw_bipush (pc' := 45) (x := (24 : Int32)) rfl rfl ?_
  refine jw_cI (st := [vL v_17, vL (((v_2 <<< (Int32.toInt64 v_5 &&& 63)) ||| (v_7 <<< (Int32.toInt64 v_10 &&& 63))) ||| (v_12 <<< (Int32.toInt64 v_15 &&& 63)))]) (sa := [vI (56 : Int32), vI (24 : Int32)]) okJ19_pickPos rfl rfl rfl rfl rfl rfl (jstp_static (sa := [vI (56 : Int32), vI (24 : Int32)]) (st := [vL v_17, vL (((v_2 <<< (Int32.toInt64 v_5 &&& 63)) ||| (v_7 <<< (Int32.toInt64 v_10 &&& 63))) ||| (v_12 <<< (Int32.toInt64 v_15 &&& 63)))]) rfl rfl sJ19_pickPos okJ19_pickPos rfl rfl) w (fun v_20 h_18 _ _ w => ?_)
  refine jw_lshl (pc' := 49) rfl ?_
  refine jw_lor (pc' := 50) rfl ?_
  refine jw_iload (pc' := 52) rfl rfl ?_
  refine jw_cL (st := [vL ((((v_2 <<< (Int32.toInt64 v_5 &&& 63)) ||| (v_7 <<< (Int32.toInt64 v_10 &&& 63))) ||| (v_12 <<< (Int32.toInt64 v_15 &&& 63))) ||| (v_17 <<< (Int32.toInt64 v_20 &&& 63)))]) (sa := [vI x4]) okJ19_toUnsignedLong_3 rfl rfl rfl rfl rfl rfl (jstp_static (sa := [vI x4]) (st := [vL ((((v_2 <<< (Int32.toInt64 v_5 &&& 63)) ||| (v_7 <<< (Int32.toInt64 v_10 &&& 63))) ||| (v_12 <<< (Int32.toInt64 v_15 &&& 63))) ||| (v_17 <<< (Int32.toInt64 v_20 &&& 63)))]) rfl rfl sJ19_toUnsignedLong_3 okJ19_toUnsignedLong_3 rfl rfl) w (fun v_22 h_21 _ _ w => ?_)
  refine jw_bipush (pc' := 57) (x := (56 : Int32)) rfl rfl ?_
  refine jw_bipush (pc' := 59) (x := (32 : Int32)) rfl rfl ?_
  refine jw_cI (st := [vL v_22, vL ((((v_2 <<< (Int32.toInt64 v_5 &&& 63)) ||| (v_7 <<< (Int32.toInt64 v_10 &&& 63))) ||| (v_12 <<< (Int32.toInt64 v_15 &&& 63))) ||| (v_17 <<< (Int32.toInt64 v_20 &&& 63)))]) (sa := [vI (56 : Int32), vI (32 : Int32)]) okJ19_pickPos rfl rfl rfl rfl rfl rfl (jstp_static (sa := [vI (56 : Int32), vI (32 : Int32)]) (st := [vL v_22, vL ((((v_2 <<< (Int32.toInt64 v_5 &&& 63)) ||| (v_7 <<< (Int32.toInt64 v_10 &&& 63))) ||| (v_12 <<< (Int32.toInt64 v_15 &&& 63))) ||| (v_17 <<< (Int32.toInt64 v_20 &&& 63)))]) rfl rfl sJ19_pickPos okJ19_pickPos rfl rfl) w (fun v_25 h_23 _ _ w => ?_)
  refine jw_lshl (pc' := 63) rfl ?_
  refine jw_lor (pc' := 64) rfl ?_
  refine jw_iload (pc' := 66) rfl rfl ?_
  refine jw_cL (st := [vL (((((v_2 <<< (Int32.toInt64 v_5 &&& 63)) ||| (v_7 <<< (Int32.toInt64 v_10 &&& 63))) ||| (v_12 <<< (Int32.toInt64 v_15 &&& 63))) ||| (v_17 <<< (Int32.toInt64 v_20 &&& 63))) ||| (v_22 <<< (Int32.toInt64 v_25 &&& 63)))]) (sa := [vI x5]) okJ19_toUnsignedLong_3 rfl rfl rfl rfl rfl rfl (jstp_static (sa := [vI x5]) (st := [vL (((((v_2 <<< (Int32.toInt64 v_5 &&& 63)) ||| (v_7 <<< (Int32.toInt64 v_10 &&& 63))) ||| (v_12 <<< (Int32.toInt64 v_15 &&& 63))) ||| (v_17 <<< (Int32.toInt64 v_20 &&& 63))) ||| (v_22 <<< (Int32.toInt64 v_25 &&& 63)))]) rfl rfl sJ19_toUnsignedLong_3 okJ19_toUnsignedLong_3 rfl rfl) w (fun v_27 h_26 _ _ w => ?_)
  refine jw_bipush (pc' := 71) (x := (56 : Int32)) rfl rfl ?_
  refine jw_bipush (pc' := 73) (x := (40 : Int32)) rfl rfl ?_
  refine jw_cI (st := [vL v_27, vL (((((v_2 <<< (Int32.toInt64 v_5 &&& 63)) ||| (v_7 <<< (Int32.toInt64 v_10 &&& 63))) ||| (v_12 <<< (Int32.toInt64 v_15 &&& 63))) ||| (v_17 <<< (Int32.toInt64 v_20 &&& 63))) ||| (v_22 <<< (Int32.toInt64 v_25 &&& 63)))]) (sa := [vI (56 : Int32), vI (40 : Int32)]) okJ19_pickPos rfl rfl rfl rfl rfl rfl (jstp_static (sa := [vI (56 : Int32), vI (40 : Int32)]) (st := [vL v_27, vL (((((v_2 <<< (Int32.toInt64 v_5 &&& 63)) ||| (v_7 <<< (Int32.toInt64 v_10 &&& 63))) ||| (v_12 <<< (Int32.toInt64 v_15 &&& 63))) ||| (v_17 <<< (Int32.toInt64 v_20 &&& 63))) ||| (v_22 <<< (Int32.toInt64 v_25 &&& 63)))]) rfl rfl sJ19_pickPos okJ19_pickPos rfl rfl) w (fun v_30 h_28 _ _ w => ?_)
  refine jw_lshl (pc' := 77) rfl ?_
  refine jw_lor (pc' := 78) rfl ?_
  refine jw_iload (pc' := 80) rfl rfl ?_
  refine jw_cL (st := [vL ((((((v_2 <<< (Int32.toInt64 v_5 &&& 63)) ||| (v_7 <<< (Int32.toInt64 v_10 &&& 63))) ||| (v_12 <<< (Int32.toInt64 v_15 &&& 63))) ||| (v_17 <<< (Int32.toInt64 v_20 &&& 63))) ||| (v_22 <<< (Int32.toInt64 v_25 &&& 63))) ||| (v_27 <<< (Int32.toInt64 v_30 &&& 63)))]) (sa := [vI x6]) okJ19_toUnsignedLong_3 rfl rfl rfl rfl rfl rfl (jstp_static (sa := [vI x6]) (st := [vL ((((((v_2 <<< (Int32.toInt64 v_5 &&& 63)) ||| (v_7 <<< (Int32.toInt64 v_10 &&& 63))) ||| (v_12 <<< (Int32.toInt64 v_15 &&& 63))) ||| (v_17 <<< (Int32.toInt64 v_20 &&& 63))) ||| (v_22 <<< (Int32.toInt64 v_25 &&& 63))) ||| (v_27 <<< (Int32.toInt64 v_30 &&& 63)))]) rfl rfl sJ19_toUnsignedLong_3 okJ19_toUnsignedLong_3 rfl rfl) w (fun v_32 h_31 _ _ w => ?_)
  refine jw_bipush (pc' := 85) (x := (56 : Int32)) rfl rfl ?_
  refine jw_bipush (pc' := 87) (x := (48 : Int32)) rfl rfl ?_
  refine jw_cI (st := [vL v_32, vL ((((((v_2 <<< (Int32.toInt64 v_5 &&& 63)) ||| (v_7 <<< (Int32.toInt64 v_10 &&& 63))) ||| (v_12 <<< (Int32.toInt64 v_15 &&& 63))) ||| (v_17 <<< (Int32.toInt64 v_20 &&& 63))) ||| (v_22 <<< (Int32.toInt64 v_25 &&& 63))) ||| (v_27 <<< (Int32.toInt64 v_30 &&& 63)))]) (sa := [vI (56 : Int32), vI (48 : Int32)]) okJ19_pickPos rfl rfl rfl rfl rfl rfl (jstp_static (sa := [vI (56 : Int32), vI (48 : Int32)]) (st := [vL v_32, vL ((((((v_2 <<< (Int32.toInt64 v_5 &&& 63)) ||| (v_7 <<< (Int32.toInt64 v_10 &&& 63))) ||| (v_12 <<< (Int32.toInt64 v_15 &&& 63))) ||| (v_17 <<< (Int32.toInt64 v_20 &&& 63))) ||| (v_22 <<< (Int32.toInt64 v_25 &&& 63))) ||| (v_27 <<< (Int32.toInt64 v_30 &&& 63)))]) rfl rfl sJ19_pickPos okJ19_pickPos rfl rfl) w (fun v_35 h_33 _ _ w => ?_)
  refine jw_lshl (pc' := 91) rfl ?_
  refine jw_lor (pc' := 92) rfl ?_
  refine jw_iload (pc' := 94) rfl rfl ?_
  refine jw_cL (st := [vL (((((((v_2 <<< (Int32.toInt64 v_5 &&& 63)) ||| (v_7 <<< (Int32.toInt64 v_10 &&& 63))) ||| (v_12 <<< (Int32.toInt64 v_15 &&& 63))) ||| (v_17 <<< (Int32.toInt64 v_20 &&& 63))) ||| (v_22 <<< (Int32.toInt64 v_25 &&& 63))) ||| (v_27 <<< (Int32.toInt64 v_30 &&& 63))) ||| (v_32 <<< (Int32.toInt64 v_35 &&& 63)))]) (sa := [vI x7]) okJ19_toUnsignedLong_3 rfl rfl rfl rfl rfl rfl (jstp_static (sa := [vI x7]) (st := [vL (((((((v_2 <<< (Int32.toInt64 v_5 &&& 63)) ||| (v_7 <<< (Int32.toInt64 v_10 &&& 63))) ||| (v_12 <<< (Int32.toInt64 v_15 &&& 63))) ||| (v_17 <<< (Int32.toInt64 v_20 &&& 63))) ||| (v_22 <<< (Int32.toInt64 v_25 &&& 63))) ||| (v_27 <<< (Int32.toInt64 v_30 &&& 63))) ||| (v_32 <<< (Int32.toInt64 v_35 &&& 63)))]) rfl rfl sJ19_toUnsignedLong_3 okJ19_toUnsignedLong_3 rfl rfl) w (fun v_37 h_36 _ _ w => ?_)
  refine jw_bipush (pc' := 99) (x := (56 : Int32)) rfl rfl ?_
  refine jw_bipush (pc' := 101) (x := (56 : Int32)) rfl rfl ?_
  refine jw_cI (st := [vL v_37, vL (((((((v_2 <<< (Int32.toInt64 v_5 &&& 63)) ||| (v_7 <<< (Int32.toInt64 v_10 &&& 63))) ||| (v_12 <<< (Int32.toInt64 v_15 &&& 63))) ||| (v_17 <<< (Int32.toInt64 v_20 &&& 63))) ||| (v_22 <<< (Int32.toInt64 v_25 &&& 63))) ||| (v_27 <<< (Int32.toInt64 v_30 &&& 63))) ||| (v_32 <<< (Int32.toInt64 v_35 &&& 63)))]) (sa := [vI (56 : Int32), vI (56 : Int32)]) okJ19_pickPos rfl rfl rfl rfl rfl rfl (jstp_static (sa := [vI (56 : Int32), vI (56 : Int32)]) (st := [vL v_37, vL (((((((v_2 <<< (Int32.toInt64 v_5 &&& 63)) ||| (v_7 <<< (Int32.toInt64 v_10 &&& 63))) ||| (v_12 <<< (Int32.toInt64 v_15 &&& 63))) ||| (v_17 <<< (Int32.toInt64 v_20 &&& 63))) ||| (v_22 <<< (Int32.toInt64 v_25 &&& 63))) ||| (v_27 <<< (Int32.toInt64 v_30 &&& 63))) ||| (v_32 <<< (Int32.toInt64 v_35 &&& 63)))]) rfl rfl sJ19_pickPos okJ19_pickPos rfl rfl) w (fun v_40 h_38 _ _ w => ?_)
  refine jw_lshl (pc' := 105) rfl ?_
  refine jw_lor (pc' := 106) rfl ?_
  exact jw_lreturn rfl rfl w
def T_J19_makeLong_3 (D : JD) (d : Nat) (Q : JO → JH → Prop) (x0 : Int32) (x1 : Int32) (x2 : Int32) (x3 : Int32) (x4 : Int32) (x5 : Int32) (x6 : Int32) (x7 : Int32) (h : JH) : Prop := W_J19_makeLong_3_0 D d Q x0 x1 x2 x3 x4 x5 x6 x7 h
theorem t_J19_makeLong_3 {D : JD} {d : Nat} {Q : JO → JH → Prop} {x0 : Int32} {x1 : Int32} {x2 : Int32} {x3 : Int32} {x4 : Int32} {x5 : Int32} {x6 : Int32} {x7 : Int32} {h : JH} (w : T_J19_makeLong_3 D d Q x0 x1 x2 x3 x4 x5 x6 x7 h) : cJ19_makeLong_3 D (d + 1) x0 x1 x2 x3 x4 x5 x6 x7 h Q := by
  unfold T_J19_makeLong_3 at w
  unfold cJ19_makeLong_3
  exact w_J19_makeLong_3_0 w
def W_J19_toUnsignedLong_3_0 (D : JD) (d : Nat) (Q : JO → JH → Prop) (x0 : Int32) (h : JH) : Prop :=
  Q (.inl (some (vL ((Int32.toInt64 x0) &&& (255 : Int64))))) h
theorem w_J19_toUnsignedLong_3_0 {D : JD} {d : Nat} {Q : JO → JH → Prop} {x0 : Int32} {h : JH} (w : W_J19_toUnsignedLong_3_0 D d Q x0 h) : JW D (d + 1) mJ19_toUnsignedLong_3 0 [some (vI x0)] [] h Q := by
  unfold W_J19_toUnsignedLong_3_0 at w
  refine jw_iload_n (pc' := 1) rfl rfl ?_
  refine jw_i2l (pc' := 2) rfl ?_
  refine jw_ldc2 (pc' := 5) (v := (255 : Int64)) rfl rfl ?_
  refine jw_land (pc' := 6) rfl ?_
  exact jw_lreturn rfl rfl w
def T_J19_toUnsignedLong_3 (D : JD) (d : Nat) (Q : JO → JH → Prop) (x0 : Int32) (h : JH) : Prop := W_J19_toUnsignedLong_3_0 D d Q x0 h
theorem t_J19_toUnsignedLong_3 {D : JD} {d : Nat} {Q : JO → JH → Prop} {x0 : Int32} {h : JH} (w : T_J19_toUnsignedLong_3 D d Q x0 h) : cJ19_toUnsignedLong_3 D (d + 1) x0 h Q := by
  unfold T_J19_toUnsignedLong_3 at w
  unfold cJ19_toUnsignedLong_3
  exact w_J19_toUnsignedLong_3_0 w
def W_J19_getIntUnaligned_0 (D : JD) (d : Nat) (Q : JO → JH → Prop) (r0 : Nat) (r1 : Nat) (y2 : Int64) (h : JH) : Prop :=
  (¬ (lg_cmp (y2 &&& (3 : Int64)) (0 : Int64)) = 0 → (¬ (lg_cmp (y2 &&& (1 : Int64)) (0 : Int64)) = 0 → False) ∧ ((lg_cmp (y2 &&& (1 : Int64)) (0 : Int64)) = 0 → False)) ∧ ((lg_cmp (y2 &&& (3 : Int64)) (0 : Int64)) = 0 → False)
theorem w_J19_getIntUnaligned_0 {D : JD} {d : Nat} {Q : JO → JH → Prop} {r0 : Nat} {r1 : Nat} {y2 : Int64} {h : JH} (w : W_J19_getIntUnaligned_0 D d Q r0 r1 y2 h) : JW D (d + 1) mJ19_getIntUnaligned 0 [some (vR 0 r0), some (vR 59 r1), some (vL y2), none] [] h Q := by
  unfold W_J19_getIntUnaligned_0 at w
  refine jw_lload_n (pc' := 1) rfl rfl ?_
  refine jw_ldc2 (pc' := 4) (v := (3 : Int64)) rfl rfl ?_
  refine jw_land (pc' := 5) rfl ?_
  refine jw_lconst (pc' := 6) (x := (0 : Int64)) rfl rfl ?_
  refine jw_lcmp (pc' := 7) rfl ?_
  refine jw_if_ne (tgt := 17) (pc' := 10) rfl rfl (fun c_1 => ?_) (fun c_1 => ?_)
  · replace w := w.1 c_1
    refine jw_lload_n (pc' := 18) rfl rfl ?_
    refine jw_lconst (pc' := 19) (x := (1 : Int64)) rfl rfl ?_
    refine jw_land (pc' := 20) rfl ?_
    refine jw_lconst (pc' := 21) (x := (0 : Int64)) rfl rfl ?_
    refine jw_lcmp (pc' := 22) rfl ?_
    refine jw_if_ne (tgt := 45) (pc' := 25) rfl rfl (fun c_2 => ?_) (fun c_2 => ?_)
    · replace w := w.1 c_2
      refine jw_aload_n (pc' := 46) rfl rfl ?_
      refine jw_aload_n (pc' := 47) rfl rfl ?_
      refine jw_lload_n (pc' := 48) rfl rfl ?_
      exact w.elim
    · replace w := w.2 c_2
      refine jw_aload_n (pc' := 26) rfl rfl ?_
      refine jw_aload_n (pc' := 27) rfl rfl ?_
      refine jw_lload_n (pc' := 28) rfl rfl ?_
      exact w.elim
  · replace w := w.2 c_1
    refine jw_aload_n (pc' := 11) rfl rfl ?_
    refine jw_aload_n (pc' := 12) rfl rfl ?_
    refine jw_lload_n (pc' := 13) rfl rfl ?_
    exact w.elim
def T_J19_getIntUnaligned (D : JD) (d : Nat) (Q : JO → JH → Prop) (r0 : Nat) (r1 : Nat) (y2 : Int64) (h : JH) : Prop := W_J19_getIntUnaligned_0 D d Q r0 r1 y2 h
theorem t_J19_getIntUnaligned {D : JD} {d : Nat} {Q : JO → JH → Prop} {r0 : Nat} {r1 : Nat} {y2 : Int64} {h : JH} (w : T_J19_getIntUnaligned D d Q r0 r1 y2 h) : cJ19_getIntUnaligned D (d + 1) r0 r1 y2 h Q := by
  unfold T_J19_getIntUnaligned at w
  unfold cJ19_getIntUnaligned
  exact w_J19_getIntUnaligned_0 w
def W_J19_makeInt_0 (D : JD) (d : Nat) (Q : JO → JH → Prop) (x0 : Int32) (x1 : Int32) (h : JH) : Prop :=
  cJ19_toUnsignedInt D d x0 h (pI D h (fun v_3 h_1 => cJ19_pickPos D d (16 : Int32) (0 : Int32) h_1 (pI D h_1 (fun v_6 h_4 => cJ19_toUnsignedInt D d x1 h_4 (pI D h_4 (fun v_9 h_7 => cJ19_pickPos D d (16 : Int32) (16 : Int32) h_7 (pI D h_7 (fun v_12 h_10 => Q (.inl (some (vI ((v_3 <<< (v_6 &&& 31)) ||| (v_9 <<< (v_12 &&& 31)))))) h_10) (jth Q))) (jth Q))) (jth Q))) (jth Q))
theorem w_J19_makeInt_0 {D : JD} {d : Nat} {Q : JO → JH → Prop} {x0 : Int32} {x1 : Int32} {h : JH} (w : W_J19_makeInt_0 D d Q x0 x1 h) : JW D (d + 1) mJ19_makeInt 0 [some (vI x0), some (vI x1)] [] h Q := by
  unfold W_J19_makeInt_0 at w
  refine jw_iload_n (pc' := 1) rfl rfl ?_
  refine jw_cI (st := []) (sa := [vI x0]) okJ19_toUnsignedInt rfl rfl rfl rfl rfl rfl (jstp_static (sa := [vI x0]) (st := []) rfl rfl sJ19_toUnsignedInt okJ19_toUnsignedInt rfl rfl) w (fun v_3 h_1 _ _ w => ?_)
  refine jw_bipush (pc' := 6) (x := (16 : Int32)) rfl rfl ?_
  refine jw_iconst (pc' := 7) (x := (0 : Int32)) rfl rfl ?_
  refine jw_cI (st := [vI v_3]) (sa := [vI (16 : Int32), vI (0 : Int32)]) okJ19_pickPos rfl rfl rfl rfl rfl rfl (jstp_static (sa := [vI (16 : Int32), vI (0 : Int32)]) (st := [vI v_3]) rfl rfl sJ19_pickPos okJ19_pickPos rfl rfl) w (fun v_6 h_4 _ _ w => ?_)
  refine jw_ishl (pc' := 11) rfl ?_
  refine jw_iload_n (pc' := 12) rfl rfl ?_
  refine jw_cI (st := [vI (v_3 <<< (v_6 &&& 31))]) (sa := [vI x1]) okJ19_toUnsignedInt rfl rfl rfl rfl rfl rfl (jstp_static (sa := [vI x1]) (st := [vI (v_3 <<< (v_6 &&& 31))]) rfl rfl sJ19_toUnsignedInt okJ19_toUnsignedInt rfl rfl) w (fun v_9 h_7 _ _ w => ?_)
  refine jw_bipush (pc' := 17) (x := (16 : Int32)) rfl rfl ?_
  refine jw_bipush (pc' := 19) (x := (16 : Int32)) rfl rfl ?_
  refine jw_cI (st := [vI v_9, vI (v_3 <<< (v_6 &&& 31))]) (sa := [vI (16 : Int32), vI (16 : Int32)]) okJ19_pickPos rfl rfl rfl rfl rfl rfl (jstp_static (sa := [vI (16 : Int32), vI (16 : Int32)]) (st := [vI v_9, vI (v_3 <<< (v_6 &&& 31))]) rfl rfl sJ19_pickPos okJ19_pickPos rfl rfl) w (fun v_12 h_10 _ _ w => ?_)
  refine jw_ishl (pc' := 23) rfl ?_
  refine jw_ior (pc' := 24) rfl ?_
  exact jw_ireturn rfl rfl (rfl) w
def T_J19_makeInt (D : JD) (d : Nat) (Q : JO → JH → Prop) (x0 : Int32) (x1 : Int32) (h : JH) : Prop := W_J19_makeInt_0 D d Q x0 x1 h
theorem t_J19_makeInt {D : JD} {d : Nat} {Q : JO → JH → Prop} {x0 : Int32} {x1 : Int32} {h : JH} (w : T_J19_makeInt D d Q x0 x1 h) : cJ19_makeInt D (d + 1) x0 x1 h Q := by
  unfold T_J19_makeInt at w
  unfold cJ19_makeInt
  exact w_J19_makeInt_0 w
def W_J19_toUnsignedInt_0 (D : JD) (d : Nat) (Q : JO → JH → Prop) (x0 : Int32) (h : JH) : Prop :=
  Q (.inl (some (vI (x0 &&& (65535 : Int32))))) h
theorem w_J19_toUnsignedInt_0 {D : JD} {d : Nat} {Q : JO → JH → Prop} {x0 : Int32} {h : JH} (w : W_J19_toUnsignedInt_0 D d Q x0 h) : JW D (d + 1) mJ19_toUnsignedInt 0 [some (vI x0)] [] h Q := by
  unfold W_J19_toUnsignedInt_0 at w
  refine jw_iload_n (pc' := 1) rfl rfl ?_
  refine jw_ldcwI (pc' := 4) (v := (65535 : Int32)) rfl rfl (by decide +kernel) ?_
  refine jw_iand (pc' := 5) rfl ?_
  exact jw_ireturn rfl rfl (rfl) w
def T_J19_toUnsignedInt (D : JD) (d : Nat) (Q : JO → JH → Prop) (x0 : Int32) (h : JH) : Prop := W_J19_toUnsignedInt_0 D d Q x0 h
theorem t_J19_toUnsignedInt {D : JD} {d : Nat} {Q : JO → JH → Prop} {x0 : Int32} {h : JH} (w : T_J19_toUnsignedInt D d Q x0 h) : cJ19_toUnsignedInt D (d + 1) x0 h Q := by
  unfold T_J19_toUnsignedInt at w
  unfold cJ19_toUnsignedInt
  exact w_J19_toUnsignedInt_0 w
def W_J19_makeInt_2_0 (D : JD) (d : Nat) (Q : JO → JH → Prop) (x0 : Int32) (x1 : Int32) (x2 : Int32) (x3 : Int32) (h : JH) : Prop :=
  cJ19_toUnsignedInt_2 D d x0 h (pI D h (fun v_3 h_1 => cJ19_pickPos D d (24 : Int32) (0 : Int32) h_1 (pI D h_1 (fun v_6 h_4 => cJ19_toUnsignedInt_2 D d x1 h_4 (pI D h_4 (fun v_9 h_7 => cJ19_pickPos D d (24 : Int32) (8 : Int32) h_7 (pI D h_7 (fun v_12 h_10 => cJ19_toUnsignedInt_2 D d x2 h_10 (pI D h_10 (fun v_15 h_13 => cJ19_pickPos D d (24 : Int32) (16 : Int32) h_13 (pI D h_13 (fun v_18 h_16 => cJ19_toUnsignedInt_2 D d x3 h_16 (pI D h_16 (fun v_21 h_19 => cJ19_pickPos D d (24 : Int32) (24 : Int32) h_19 (pI D h_19 (fun v_24 h_22 => Q (.inl (some (vI ((((v_3 <<< (v_6 &&& 31)) ||| (v_9 <<< (v_12 &&& 31))) ||| (v_15 <<< (v_18 &&& 31))) ||| (v_21 <<< (v_24 &&& 31)))))) h_22) (jth Q))) (jth Q))) (jth Q))) (jth Q))) (jth Q))) (jth Q))) (jth Q))) (jth Q))
theorem w_J19_makeInt_2_0 {D : JD} {d : Nat} {Q : JO → JH → Prop} {x0 : Int32} {x1 : Int32} {x2 : Int32} {x3 : Int32} {h : JH} (w : W_J19_makeInt_2_0 D d Q x0 x1 x2 x3 h) : JW D (d + 1) mJ19_makeInt_2 0 [some (vI x0), some (vI x1), some (vI x2), some (vI x3)] [] h Q := by
  unfold W_J19_makeInt_2_0 at w
  refine jw_iload_n (pc' := 1) rfl rfl ?_
  refine jw_cI (st := []) (sa := [vI x0]) okJ19_toUnsignedInt_2 rfl rfl rfl rfl rfl rfl (jstp_static (sa := [vI x0]) (st := []) rfl rfl sJ19_toUnsignedInt_2 okJ19_toUnsignedInt_2 rfl rfl) w (fun v_3 h_1 _ _ w => ?_)
  refine jw_bipush (pc' := 6) (x := (24 : Int32)) rfl rfl ?_
  refine jw_iconst (pc' := 7) (x := (0 : Int32)) rfl rfl ?_
  refine jw_cI (st := [vI v_3]) (sa := [vI (24 : Int32), vI (0 : Int32)]) okJ19_pickPos rfl rfl rfl rfl rfl rfl (jstp_static (sa := [vI (24 : Int32), vI (0 : Int32)]) (st := [vI v_3]) rfl rfl sJ19_pickPos okJ19_pickPos rfl rfl) w (fun v_6 h_4 _ _ w => ?_)
  refine jw_ishl (pc' := 11) rfl ?_
  refine jw_iload_n (pc' := 12) rfl rfl ?_
  refine jw_cI (st := [vI (v_3 <<< (v_6 &&& 31))]) (sa := [vI x1]) okJ19_toUnsignedInt_2 rfl rfl rfl rfl rfl rfl (jstp_static (sa := [vI x1]) (st := [vI (v_3 <<< (v_6 &&& 31))]) rfl rfl sJ19_toUnsignedInt_2 okJ19_toUnsignedInt_2 rfl rfl) w (fun v_9 h_7 _ _ w => ?_)
  refine jw_bipush (pc' := 17) (x := (24 : Int32)) rfl rfl ?_
  refine jw_bipush (pc' := 19) (x := (8 : Int32)) rfl rfl ?_
  refine jw_cI (st := [vI v_9, vI (v_3 <<< (v_6 &&& 31))]) (sa := [vI (24 : Int32), vI (8 : Int32)]) okJ19_pickPos rfl rfl rfl rfl rfl rfl (jstp_static (sa := [vI (24 : Int32), vI (8 : Int32)]) (st := [vI v_9, vI (v_3 <<< (v_6 &&& 31))]) rfl rfl sJ19_pickPos okJ19_pickPos rfl rfl) w (fun v_12 h_10 _ _ w => ?_)
  refine jw_ishl (pc' := 23) rfl ?_
  refine jw_ior (pc' := 24) rfl ?_
  refine jw_iload_n (pc' := 25) rfl rfl ?_
  refine jw_cI (st := [vI ((v_3 <<< (v_6 &&& 31)) ||| (v_9 <<< (v_12 &&& 31)))]) (sa := [vI x2]) okJ19_toUnsignedInt_2 rfl rfl rfl rfl rfl rfl (jstp_static (sa := [vI x2]) (st := [vI ((v_3 <<< (v_6 &&& 31)) ||| (v_9 <<< (v_12 &&& 31)))]) rfl rfl sJ19_toUnsignedInt_2 okJ19_toUnsignedInt_2 rfl rfl) w (fun v_15 h_13 _ _ w => ?_)
  refine jw_bipush (pc' := 30) (x := (24 : Int32)) rfl rfl ?_
  refine jw_bipush (pc' := 32) (x := (16 : Int32)) rfl rfl ?_
  refine jw_cI (st := [vI v_15, vI ((v_3 <<< (v_6 &&& 31)) ||| (v_9 <<< (v_12 &&& 31)))]) (sa := [vI (24 : Int32), vI (16 : Int32)]) okJ19_pickPos rfl rfl rfl rfl rfl rfl (jstp_static (sa := [vI (24 : Int32), vI (16 : Int32)]) (st := [vI v_15, vI ((v_3 <<< (v_6 &&& 31)) ||| (v_9 <<< (v_12 &&& 31)))]) rfl rfl sJ19_pickPos okJ19_pickPos rfl rfl) w (fun v_18 h_16 _ _ w => ?_)
  refine jw_ishl (pc' := 36) rfl ?_
  refine jw_ior (pc' := 37) rfl ?_
  refine jw_iload_n (pc' := 38) rfl rfl ?_
  refine jw_cI (st := [vI (((v_3 <<< (v_6 &&& 31)) ||| (v_9 <<< (v_12 &&& 31))) ||| (v_15 <<< (v_18 &&& 31)))]) (sa := [vI x3]) okJ19_toUnsignedInt_2 rfl rfl rfl rfl rfl rfl (jstp_static (sa := [vI x3]) (st := [vI (((v_3 <<< (v_6 &&& 31)) ||| (v_9 <<< (v_12 &&& 31))) ||| (v_15 <<< (v_18 &&& 31)))]) rfl rfl sJ19_toUnsignedInt_2 okJ19_toUnsignedInt_2 rfl rfl) w (fun v_21 h_19 _ _ w => ?_)
  refine jw_bipush (pc' := 43) (x := (24 : Int32)) rfl rfl ?_
  refine jw_bipush (pc' := 45) (x := (24 : Int32)) rfl rfl ?_
  refine jw_cI (st := [vI v_21, vI (((v_3 <<< (v_6 &&& 31)) ||| (v_9 <<< (v_12 &&& 31))) ||| (v_15 <<< (v_18 &&& 31)))]) (sa := [vI (24 : Int32), vI (24 : Int32)]) okJ19_pickPos rfl rfl rfl rfl rfl rfl (jstp_static (sa := [vI (24 : Int32), vI (24 : Int32)]) (st := [vI v_21, vI (((v_3 <<< (v_6 &&& 31)) ||| (v_9 <<< (v_12 &&& 31))) ||| (v_15 <<< (v_18 &&& 31)))]) rfl rfl sJ19_pickPos okJ19_pickPos rfl rfl) w (fun v_24 h_22 _ _ w => ?_)
  refine jw_ishl (pc' := 49) rfl ?_
  refine jw_ior (pc' := 50) rfl ?_
  exact jw_ireturn rfl rfl (rfl) w
def T_J19_makeInt_2 (D : JD) (d : Nat) (Q : JO → JH → Prop) (x0 : Int32) (x1 : Int32) (x2 : Int32) (x3 : Int32) (h : JH) : Prop := W_J19_makeInt_2_0 D d Q x0 x1 x2 x3 h
theorem t_J19_makeInt_2 {D : JD} {d : Nat} {Q : JO → JH → Prop} {x0 : Int32} {x1 : Int32} {x2 : Int32} {x3 : Int32} {h : JH} (w : T_J19_makeInt_2 D d Q x0 x1 x2 x3 h) : cJ19_makeInt_2 D (d + 1) x0 x1 x2 x3 h Q := by
  unfold T_J19_makeInt_2 at w
  unfold cJ19_makeInt_2
  exact w_J19_makeInt_2_0 w
def W_J19_toUnsignedInt_2_0 (D : JD) (d : Nat) (Q : JO → JH → Prop) (x0 : Int32) (h : JH) : Prop :=
  Q (.inl (some (vI (x0 &&& (255 : Int32))))) h
theorem w_J19_toUnsignedInt_2_0 {D : JD} {d : Nat} {Q : JO → JH → Prop} {x0 : Int32} {h : JH} (w : W_J19_toUnsignedInt_2_0 D d Q x0 h) : JW D (d + 1) mJ19_toUnsignedInt_2 0 [some (vI x0)] [] h Q := by
  unfold W_J19_toUnsignedInt_2_0 at w
  refine jw_iload_n (pc' := 1) rfl rfl ?_
  refine jw_sipush (pc' := 4) (x := (255 : Int32)) rfl rfl ?_
  refine jw_iand (pc' := 5) rfl ?_
  exact jw_ireturn rfl rfl (rfl) w
def T_J19_toUnsignedInt_2 (D : JD) (d : Nat) (Q : JO → JH → Prop) (x0 : Int32) (h : JH) : Prop := W_J19_toUnsignedInt_2_0 D d Q x0 h
theorem t_J19_toUnsignedInt_2 {D : JD} {d : Nat} {Q : JO → JH → Prop} {x0 : Int32} {h : JH} (w : T_J19_toUnsignedInt_2 D d Q x0 h) : cJ19_toUnsignedInt_2 D (d + 1) x0 h Q := by
  unfold T_J19_toUnsignedInt_2 at w
  unfold cJ19_toUnsignedInt_2
  exact w_J19_toUnsignedInt_2_0 w
def W_J2_init_0 (D : JD) (d : Nat) (Q : JO → JH → Prop) (r0 : Nat) (h : JH) : Prop :=
  r0 ≠ 0 ∧ (cJ1_init D d r0 h (pV D h (fun h_2 => Q (.inl none) h_2) (jth Q)))
theorem w_J2_init_0 {D : JD} {d : Nat} {Q : JO → JH → Prop} {r0 : Nat} {h : JH} (w : W_J2_init_0 D d Q r0 h) : JW D (d + 1) mJ2_init 0 [some (vR 61 r0)] [] h Q := by
  unfold W_J2_init_0 at w
  refine jw_aload_n (pc' := 1) rfl rfl ?_
  obtain ⟨g_1, w⟩ := w
  refine jw_cV (st := []) (sa := [vR 61 r0]) okJ1_init rfl rfl rfl rfl rfl rfl (jstp_init (sa := []) (st := []) rfl rfl sJ1_init okJ1_init (lw_g (jtb_mem (c := 3) (i := 70) rfl) rfl) g_1 rfl rfl) w (fun h_2 _ _ w => ?_)
  exact jw_return rfl rfl w
def T_J2_init (D : JD) (d : Nat) (Q : JO → JH → Prop) (r0 : Nat) (h : JH) : Prop := W_J2_init_0 D d Q r0 h
theorem t_J2_init {D : JD} {d : Nat} {Q : JO → JH → Prop} {r0 : Nat} {h : JH} (w : T_J2_init D d Q r0 h) : cJ2_init D (d + 1) r0 h Q := by
  unfold T_J2_init at w
  unfold cJ2_init
  exact w_J2_init_0 w
def W_J2_init_2_0 (D : JD) (d : Nat) (Q : JO → JH → Prop) (r0 : Nat) (r1 : Nat) (h : JH) : Prop :=
  r0 ≠ 0 ∧ (cJ1_init_2 D d r0 r1 h (pV D h (fun h_2 => Q (.inl none) h_2) (jth Q)))
theorem w_J2_init_2_0 {D : JD} {d : Nat} {Q : JO → JH → Prop} {r0 : Nat} {r1 : Nat} {h : JH} (w : W_J2_init_2_0 D d Q r0 r1 h) : JW D (d + 1) mJ2_init_2 0 [some (vR 61 r0), some (vR 64 r1)] [] h Q := by
  unfold W_J2_init_2_0 at w
  refine jw_aload_n (pc' := 1) rfl rfl ?_
  refine jw_aload_n (pc' := 2) rfl rfl ?_
  obtain ⟨g_1, w⟩ := w
  refine jw_cV (st := []) (sa := [vR 61 r0, vR 64 r1]) okJ1_init_2 rfl rfl rfl rfl rfl rfl (jstp_init (sa := [vR 64 r1]) (st := []) rfl rfl sJ1_init_2 okJ1_init_2 (lw_g (jtb_mem (c := 4) (i := 143) rfl) rfl) g_1 rfl rfl) w (fun h_2 _ _ w => ?_)
  exact jw_return rfl rfl w
def T_J2_init_2 (D : JD) (d : Nat) (Q : JO → JH → Prop) (r0 : Nat) (r1 : Nat) (h : JH) : Prop := W_J2_init_2_0 D d Q r0 r1 h
theorem t_J2_init_2 {D : JD} {d : Nat} {Q : JO → JH → Prop} {r0 : Nat} {r1 : Nat} {h : JH} (w : T_J2_init_2 D d Q r0 r1 h) : cJ2_init_2 D (d + 1) r0 r1 h Q := by
  unfold T_J2_init_2 at w
  unfold cJ2_init_2
  exact w_J2_init_2_0 w
def W_J2_init_3_0 (D : JD) (d : Nat) (Q : JO → JH → Prop) (r0 : Nat) (r1 : Nat) (r2 : Nat) (x3 : Int32) (x4 : Int32) (h : JH) : Prop :=
  r0 ≠ 0 ∧ (cJ1_init_3 D d r0 r1 r2 x3 x4 h (pV D h (fun h_2 => Q (.inl none) h_2) (jth Q)))
theorem w_J2_init_3_0 {D : JD} {d : Nat} {Q : JO → JH → Prop} {r0 : Nat} {r1 : Nat} {r2 : Nat} {x3 : Int32} {x4 : Int32} {h : JH} (w : W_J2_init_3_0 D d Q r0 r1 r2 x3 x4 h) : JW D (d + 1) mJ2_init_3 0 [some (vR 61 r0), some (vR 64 r1), some (vR 10 r2), some (vI x3), some (vI x4)] [] h Q := by
  unfold W_J2_init_3_0 at w
  refine jw_aload_n (pc' := 1) rfl rfl ?_
  refine jw_aload_n (pc' := 2) rfl rfl ?_
  refine jw_aload_n (pc' := 3) rfl rfl ?_
  refine jw_iload_n (pc' := 4) rfl rfl ?_
  refine jw_iload (pc' := 6) rfl rfl ?_
  obtain ⟨g_1, w⟩ := w
  refine jw_cV (st := []) (sa := [vR 61 r0, vR 64 r1, vR 10 r2, vI x3, vI x4]) okJ1_init_3 rfl rfl rfl rfl rfl rfl (jstp_init (sa := [vR 64 r1, vR 10 r2, vI x3, vI x4]) (st := []) rfl rfl sJ1_init_3 okJ1_init_3 (lw_g (jtb_mem (c := 15) (i := 87) rfl) rfl) g_1 rfl rfl) w (fun h_2 _ _ w => ?_)
  exact jw_return rfl rfl w
def T_J2_init_3 (D : JD) (d : Nat) (Q : JO → JH → Prop) (r0 : Nat) (r1 : Nat) (r2 : Nat) (x3 : Int32) (x4 : Int32) (h : JH) : Prop := W_J2_init_3_0 D d Q r0 r1 r2 x3 x4 h
theorem t_J2_init_3 {D : JD} {d : Nat} {Q : JO → JH → Prop} {r0 : Nat} {r1 : Nat} {r2 : Nat} {x3 : Int32} {x4 : Int32} {h : JH} (w : T_J2_init_3 D d Q r0 r1 r2 x3 x4 h) : cJ2_init_3 D (d + 1) r0 r1 r2 x3 x4 h Q := by
  unfold T_J2_init_3 at w
  unfold cJ2_init_3
  exact w_J2_init_3_0 w
def W_J20_isValidCodePoint_16 (D : JD) (d : Nat) (Q : JO → JH → Prop) (s0 : Int32) (h : JH) : Prop :=
  jbo s0 ∧ (Q (.inl (some (vI s0))) h)
theorem w_J20_isValidCodePoint_16 {D : JD} {d : Nat} {Q : JO → JH → Prop} {s0 : Int32} {h : JH} (w : W_J20_isValidCodePoint_16 D d Q s0 h) : JW D (d + 1) mJ20_isValidCodePoint 16 [none, none] [vI s0] h Q := by
  unfold W_J20_isValidCodePoint_16 at w
  obtain ⟨g_1, w⟩ := w
  exact jw_ireturn rfl rfl (g_1.nr) w
def W_J20_isValidCodePoint_0 (D : JD) (d : Nat) (Q : JO → JH → Prop) (x0 : Int32) (h : JH) : Prop :=
  ((17 : Int32) ≤ ((Int32.toUInt32 x0 >>> (Int32.toUInt32 (16 : Int32) &&& Int32.toUInt32 31)).toInt32) → W_J20_isValidCodePoint_16 D d Q (0 : Int32) h) ∧ (¬ (17 : Int32) ≤ ((Int32.toUInt32 x0 >>> (Int32.toUInt32 (16 : Int32) &&& Int32.toUInt32 31)).toInt32) → W_J20_isValidCodePoint_16 D d Q (1 : Int32) h)
theorem w_J20_isValidCodePoint_0 {D : JD} {d : Nat} {Q : JO → JH → Prop} {x0 : Int32} {h : JH} (w : W_J20_isValidCodePoint_0 D d Q x0 h) : JW D (d + 1) mJ20_isValidCodePoint 0 [some (vI x0), none] [] h Q := by
  unfold W_J20_isValidCodePoint_0 at w
  refine jw_iload_n (pc' := 1) rfl rfl ?_
  refine jw_bipush (pc' := 3) (x := (16 : Int32)) rfl rfl ?_
  refine jw_iushr (pc' := 4) rfl ?_
  refine jw_istore_n (pc' := 5) (ls' := [some (vI x0), some (vI ((Int32.toUInt32 x0 >>> (Int32.toUInt32 (16 : Int32) &&& Int32.toUInt32 31)).toInt32))]) rfl (by decide) rfl ?_
  refine jw_iload_n (pc' := 6) rfl rfl ?_
  refine jw_bipush (pc' := 8) (x := (17 : Int32)) rfl rfl ?_
  refine jw_icmp_ge (tgt := 15) (pc' := 11) rfl rfl (fun c_1 => ?_) (fun c_1 => ?_)
  · replace w := w.1 c_1
    refine jw_iconst (pc' := 16) (x := (0 : Int32)) rfl rfl ?_
    refine jw_gen (ls' := [none, none]) (st' := [vI (0 : Int32)]) (trivial) (And.intro (Or.inl rfl) (trivial)) ?_
    exact w_J20_isValidCodePoint_16 w
  · replace w := w.2 c_1
    refine jw_iconst (pc' := 12) (x := (1 : Int32)) rfl rfl ?_
    refine jw_goto (pc' := 16) rfl rfl ?_
    refine jw_gen (ls' := [none, none]) (st' := [vI (1 : Int32)]) (trivial) (And.intro (Or.inl rfl) (trivial)) ?_
    exact w_J20_isValidCodePoint_16 w
def T_J20_isValidCodePoint (D : JD) (d : Nat) (Q : JO → JH → Prop) (x0 : Int32) (h : JH) : Prop := W_J20_isValidCodePoint_0 D d Q x0 h
theorem t_J20_isValidCodePoint {D : JD} {d : Nat} {Q : JO → JH → Prop} {x0 : Int32} {h : JH} (w : T_J20_isValidCodePoint D d Q x0 h) : cJ20_isValidCodePoint D (d + 1) x0 h Q := by
  unfold T_J20_isValidCodePoint at w
  unfold cJ20_isValidCodePoint
  exact w_J20_isValidCodePoint_0 w
def W_J20_highSurrogate_0 (D : JD) (d : Nat) (Q : JO → JH → Prop) (x0 : Int32) (h : JH) : Prop :=
  narrow .char (.int ((Int32.toUInt32 (((Int32.toUInt32 x0 >>> (Int32.toUInt32 (10 : Int32) &&& Int32.toUInt32 31)).toInt32) + (55232 : Int32)) % 65536).toInt32)) = .int ((Int32.toUInt32 (((Int32.toUInt32 x0 >>> (Int32.toUInt32 (10 : Int32) &&& Int32.toUInt32 31)).toInt32) + (55232 : Int32)) % 65536).toInt32) ∧ (Q (.inl (some (vI ((Int32.toUInt32 (((Int32.toUInt32 x0 >>> (Int32.toUInt32 (10 : Int32) &&& Int32.toUInt32 31)).toInt32) + (55232 : Int32)) % 65536).toInt32)))) h)
theorem w_J20_highSurrogate_0 {D : JD} {d : Nat} {Q : JO → JH → Prop} {x0 : Int32} {h : JH} (w : W_J20_highSurrogate_0 D d Q x0 h) : JW D (d + 1) mJ20_highSurrogate 0 [some (vI x0)] [] h Q := by
  unfold W_J20_highSurrogate_0 at w
  refine jw_iload_n (pc' := 1) rfl rfl ?_
  refine jw_bipush (pc' := 3) (x := (10 : Int32)) rfl rfl ?_
  refine jw_iushr (pc' := 4) rfl ?_
  refine jw_ldcI (pc' := 6) (v := (55232 : Int32)) rfl rfl (by decide +kernel) ?_
  refine jw_iadd (pc' := 7) rfl ?_
  refine jw_i2c (pc' := 8) rfl ?_
  obtain ⟨g_1, w⟩ := w
  exact jw_ireturn rfl rfl (g_1) w
def T_J20_highSurrogate (D : JD) (d : Nat) (Q : JO → JH → Prop) (x0 : Int32) (h : JH) : Prop := W_J20_highSurrogate_0 D d Q x0 h
theorem t_J20_highSurrogate {D : JD} {d : Nat} {Q : JO → JH → Prop} {x0 : Int32} {h : JH} (w : T_J20_highSurrogate D d Q x0 h) : cJ20_highSurrogate D (d + 1) x0 h Q := by
  unfold T_J20_highSurrogate at w
  unfold cJ20_highSurrogate
  exact w_J20_highSurrogate_0 w
def W_J20_lowSurrogate_0 (D : JD) (d : Nat) (Q : JO → JH → Prop) (x0 : Int32) (h : JH) : Prop :=
  narrow .char (.int ((Int32.toUInt32 ((x0 &&& (1023 : Int32)) + (56320 : Int32)) % 65536).toInt32)) = .int ((Int32.toUInt32 ((x0 &&& (1023 : Int32)) + (56320 : Int32)) % 65536).toInt32) ∧ (Q (.inl (some (vI ((Int32.toUInt32 ((x0 &&& (1023 : Int32)) + (56320 : Int32)) % 65536).toInt32)))) h)
theorem w_J20_lowSurrogate_0 {D : JD} {d : Nat} {Q : JO → JH → Prop} {x0 : Int32} {h : JH} (w : W_J20_lowSurrogate_0 D d Q x0 h) : JW D (d + 1) mJ20_lowSurrogate 0 [some (vI x0)] [] h Q := by
  unfold W_J20_lowSurrogate_0 at w
  refine jw_iload_n (pc' := 1) rfl rfl ?_
  refine jw_sipush (pc' := 4) (x := (1023 : Int32)) rfl rfl ?_
  refine jw_iand (pc' := 5) rfl ?_
  refine jw_ldcI (pc' := 7) (v := (56320 : Int32)) rfl rfl (by decide +kernel) ?_
  refine jw_iadd (pc' := 8) rfl ?_
  refine jw_i2c (pc' := 9) rfl ?_
  obtain ⟨g_1, w⟩ := w
  exact jw_ireturn rfl rfl (g_1) w
def T_J20_lowSurrogate (D : JD) (d : Nat) (Q : JO → JH → Prop) (x0 : Int32) (h : JH) : Prop := W_J20_lowSurrogate_0 D d Q x0 h
theorem t_J20_lowSurrogate {D : JD} {d : Nat} {Q : JO → JH → Prop} {x0 : Int32} {h : JH} (w : T_J20_lowSurrogate D d Q x0 h) : cJ20_lowSurrogate D (d + 1) x0 h Q := by
  unfold T_J20_lowSurrogate at w
  unfold cJ20_lowSurrogate
  exact w_J20_lowSurrogate_0 w
def W_J3_init_0 (D : JD) (d : Nat) (Q : JO → JH → Prop) (r0 : Nat) (r1 : Nat) (h : JH) : Prop :=
  r0 ≠ 0 ∧ (cJ2_init_2 D d r0 r1 h (pV D h (fun h_2 => Q (.inl none) h_2) (jth Q)))
theorem w_J3_init_0 {D : JD} {d : Nat} {Q : JO → JH → Prop} {r0 : Nat} {r1 : Nat} {h : JH} (w : W_J3_init_0 D d Q r0 r1 h) : JW D (d + 1) mJ3_init 0 [some (vR 39 r0), some (vR 64 r1)] [] h Q := by
  unfold W_J3_init_0 at w
  refine jw_aload_n (pc' := 1) rfl rfl ?_
  refine jw_aload_n (pc' := 2) rfl rfl ?_
  obtain ⟨g_1, w⟩ := w
  refine jw_cV (st := []) (sa := [vR 39 r0, vR 64 r1]) okJ2_init_2 rfl rfl rfl rfl rfl rfl (jstp_init (sa := [vR 64 r1]) (st := []) rfl rfl sJ2_init_2 okJ2_init_2 (lw_g (jtb_mem (c := 4) (i := 140) rfl) rfl) g_1 rfl rfl) w (fun h_2 _ _ w => ?_)
  exact jw_return rfl rfl w
def T_J3_init (D : JD) (d : Nat) (Q : JO → JH → Prop) (r0 : Nat) (r1 : Nat) (h : JH) : Prop := W_J3_init_0 D d Q r0 r1 h
theorem t_J3_init {D : JD} {d : Nat} {Q : JO → JH → Prop} {r0 : Nat} {r1 : Nat} {h : JH} (w : T_J3_init D d Q r0 r1 h) : cJ3_init D (d + 1) r0 r1 h Q := by
  unfold T_J3_init at w
  unfold cJ3_init
  exact w_J3_init_0 w
def W_J3_init_2_0 (D : JD) (d : Nat) (Q : JO → JH → Prop) (r0 : Nat) (h : JH) : Prop :=
  r0 ≠ 0 ∧ (cJ2_init D d r0 h (pV D h (fun h_2 => Q (.inl none) h_2) (jth Q)))
theorem w_J3_init_2_0 {D : JD} {d : Nat} {Q : JO → JH → Prop} {r0 : Nat} {h : JH} (w : W_J3_init_2_0 D d Q r0 h) : JW D (d + 1) mJ3_init_2 0 [some (vR 39 r0)] [] h Q := by
  unfold W_J3_init_2_0 at w
  refine jw_aload_n (pc' := 1) rfl rfl ?_
  obtain ⟨g_1, w⟩ := w
  refine jw_cV (st := []) (sa := [vR 39 r0]) okJ2_init rfl rfl rfl rfl rfl rfl (jstp_init (sa := []) (st := []) rfl rfl sJ2_init okJ2_init (lw_g (jtb_mem (c := 3) (i := 67) rfl) rfl) g_1 rfl rfl) w (fun h_2 _ _ w => ?_)
  exact jw_return rfl rfl w
def T_J3_init_2 (D : JD) (d : Nat) (Q : JO → JH → Prop) (r0 : Nat) (h : JH) : Prop := W_J3_init_2_0 D d Q r0 h
theorem t_J3_init_2 {D : JD} {d : Nat} {Q : JO → JH → Prop} {r0 : Nat} {h : JH} (w : T_J3_init_2 D d Q r0 h) : cJ3_init_2 D (d + 1) r0 h Q := by
  unfold T_J3_init_2 at w
  unfold cJ3_init_2
  exact w_J3_init_2_0 w
def W_J4_init_0 (D : JD) (d : Nat) (Q : JO → JH → Prop) (r0 : Nat) (r1 : Nat) (h : JH) : Prop :=
  r0 ≠ 0 ∧ (cJ3_init D d r0 r1 h (pV D h (fun h_2 => Q (.inl none) h_2) (jth Q)))
theorem w_J4_init_0 {D : JD} {d : Nat} {Q : JO → JH → Prop} {r0 : Nat} {r1 : Nat} {h : JH} (w : W_J4_init_0 D d Q r0 r1 h) : JW D (d + 1) mJ4_init 0 [some (vR 38 r0), some (vR 64 r1)] [] h Q := by
  unfold W_J4_init_0 at w
  refine jw_aload_n (pc' := 1) rfl rfl ?_
  refine jw_aload_n (pc' := 2) rfl rfl ?_
  obtain ⟨g_1, w⟩ := w
  refine jw_cV (st := []) (sa := [vR 38 r0, vR 64 r1]) okJ3_init rfl rfl rfl rfl rfl rfl (jstp_init (sa := [vR 64 r1]) (st := []) rfl rfl sJ3_init okJ3_init (lw_g (jtb_mem (c := 14) (i := 181) rfl) rfl) g_1 rfl rfl) w (fun h_2 _ _ w => ?_)
  exact jw_return rfl rfl w
def T_J4_init (D : JD) (d : Nat) (Q : JO → JH → Prop) (r0 : Nat) (r1 : Nat) (h : JH) : Prop := W_J4_init_0 D d Q r0 r1 h
theorem t_J4_init {D : JD} {d : Nat} {Q : JO → JH → Prop} {r0 : Nat} {r1 : Nat} {h : JH} (w : T_J4_init D d Q r0 r1 h) : cJ4_init D (d + 1) r0 r1 h Q := by
  unfold T_J4_init at w
  unfold cJ4_init
  exact w_J4_init_0 w
def W_J5_checkBoundsOffCount_0 (D : JD) (d : Nat) (Q : JO → JH → Prop) (x0 : Int32) (x1 : Int32) (x2 : Int32) (h : JH) : Prop :=
  cJ9_checkFromIndexSize D d x0 x1 x2 (jcs D 347) h (pI D h (fun v_3 h_1 => Q (.inl (some (vI v_3))) h_1) (jth Q))
theorem w_J5_checkBoundsOffCount_0 {D : JD} {d : Nat} {Q : JO → JH → Prop} {x0 : Int32} {x1 : Int32} {x2 : Int32} {h : JH} (w : W_J5_checkBoundsOffCount_0 D d Q x0 x1 x2 h) : JW D (d + 1) mJ5_checkBoundsOffCount 0 [some (vI x0), some (vI x1), some (vI x2)] [] h Q := by
  unfold W_J5_checkBoundsOffCount_0 at w
  refine jw_iload_n (pc' := 1) rfl rfl ?_
  refine jw_iload_n (pc' := 2) rfl rfl ?_
  refine jw_iload_n (pc' := 3) rfl rfl ?_
  refine jw_getsR (pc' := 6) rfl rfl rfl rfl ?_
  refine jw_cI (st := []) (sa := [vI x0, vI x1, vI x2, vR 95 (jcs D 347)]) okJ9_checkFromIndexSize rfl rfl rfl rfl rfl rfl (jstp_static (sa := [vI x0, vI x1, vI x2, vR 95 (jcs D 347)]) (st := []) rfl rfl sJ9_checkFromIndexSize okJ9_checkFromIndexSize rfl rfl) w (fun v_3 h_1 _ _ w => ?_)
  exact jw_ireturn rfl rfl (rfl) w
def T_J5_checkBoundsOffCount (D : JD) (d : Nat) (Q : JO → JH → Prop) (x0 : Int32) (x1 : Int32) (x2 : Int32) (h : JH) : Prop := W_J5_checkBoundsOffCount_0 D d Q x0 x1 x2 h
theorem t_J5_checkBoundsOffCount {D : JD} {d : Nat} {Q : JO → JH → Prop} {x0 : Int32} {x1 : Int32} {x2 : Int32} {h : JH} (w : T_J5_checkBoundsOffCount D d Q x0 x1 x2 h) : cJ5_checkBoundsOffCount D (d + 1) x0 x1 x2 h Q := by
  unfold T_J5_checkBoundsOffCount at w
  unfold cJ5_checkBoundsOffCount
  exact w_J5_checkBoundsOffCount_0 w
def W_J5_checkIndex_0 (D : JD) (d : Nat) (Q : JO → JH → Prop) (x0 : Int32) (x1 : Int32) (h : JH) : Prop :=
  cJ9_checkIndex D d x0 x1 (jcs D 347) h (pI D h (fun v_3 h_1 => Q (.inl none) h_1) (jth Q))
theorem w_J5_checkIndex_0 {D : JD} {d : Nat} {Q : JO → JH → Prop} {x0 : Int32} {x1 : Int32} {h : JH} (w : W_J5_checkIndex_0 D d Q x0 x1 h) : JW D (d + 1) mJ5_checkIndex 0 [some (vI x0), some (vI x1)] [] h Q := by
  unfold W_J5_checkIndex_0 at w
  refine jw_iload_n (pc' := 1) rfl rfl ?_
  refine jw_iload_n (pc' := 2) rfl rfl ?_
  refine jw_getsR (pc' := 5) rfl rfl rfl rfl ?_
  refine jw_cI (st := []) (sa := [vI x0, vI x1, vR 95 (jcs D 347)]) okJ9_checkIndex rfl rfl rfl rfl rfl rfl (jstp_static (sa := [vI x0, vI x1, vR 95 (jcs D 347)]) (st := []) rfl rfl sJ9_checkIndex okJ9_checkIndex rfl rfl) w (fun v_3 h_1 _ _ w => ?_)
  refine jw_pop (pc' := 9) rfl rfl ?_
  exact jw_return rfl rfl w
def T_J5_checkIndex (D : JD) (d : Nat) (Q : JO → JH → Prop) (x0 : Int32) (x1 : Int32) (h : JH) : Prop := W_J5_checkIndex_0 D d Q x0 x1 h
theorem t_J5_checkIndex {D : JD} {d : Nat} {Q : JO → JH → Prop} {x0 : Int32} {x1 : Int32} {h : JH} (w : T_J5_checkIndex D d Q x0 x1 h) : cJ5_checkIndex D (d + 1) x0 x1 h Q := by
  unfold T_J5_checkIndex at w
  unfold cJ5_checkIndex
  exact w_J5_checkIndex_0 w
def W_J5_init_0 (D : JD) (d : Nat) (Q : JO → JH → Prop) (r0 : Nat) (r1 : Nat) (h : JH) : Prop :=
  r0 ≠ 0 ∧ (cJ5_init_2 D d r0 r1 0 h (pV D h (fun h_2 => Q (.inl none) h_2) (jth Q)))
theorem w_J5_init_0 {D : JD} {d : Nat} {Q : JO → JH → Prop} {r0 : Nat} {r1 : Nat} {h : JH} (w : W_J5_init_0 D d Q r0 r1 h) : JW D (d + 1) mJ5_init 0 [some (vR 64 r0), some (vR 11 r1)] [] h Q := by
  unfold W_J5_init_0 at w
  refine jw_aload_n (pc' := 1) rfl rfl ?_
  refine jw_aload_n (pc' := 2) rfl rfl ?_
  refine jw_null (pc' := 3) (t := 95) rfl ?_
  obtain ⟨g_1, w⟩ := w
  refine jw_cV (st := []) (sa := [vR 64 r0, vR 11 r1, vR 95 0]) okJ5_init_2 rfl rfl rfl rfl rfl rfl (jstp_init (sa := [vR 11 r1, vR 95 0]) (st := []) rfl rfl sJ5_init_2 okJ5_init_2 (lw_g (jtb_mem (c := 4) (i := 25) rfl) rfl) g_1 rfl rfl) w (fun h_2 _ _ w => ?_)
  exact jw_return rfl rfl w
def T_J5_init (D : JD) (d : Nat) (Q : JO → JH → Prop) (r0 : Nat) (r1 : Nat) (h : JH) : Prop := W_J5_init_0 D d Q r0 r1 h
theorem t_J5_init {D : JD} {d : Nat} {Q : JO → JH → Prop} {r0 : Nat} {r1 : Nat} {h : JH} (w : T_J5_init D d Q r0 r1 h) : cJ5_init D (d + 1) r0 r1 h Q := by
  unfold T_J5_init at w
  unfold cJ5_init
  exact w_J5_init_0 w
def W_J5_init_2_97 (D : JD) (d : Nat) (Q : JO → JH → Prop) (h : JH) : Prop :=
  Q (.inl none) h
theorem w_J5_init_2_97 {D : JD} {d : Nat} {Q : JO → JH → Prop} {h : JH} (w : W_J5_init_2_97 D d Q h) : JW D (d + 1) mJ5_init_2 97 [none, none, none, none, none] [] h Q := by
  unfold W_J5_init_2_97 at w
  exact jw_return rfl rfl w
def W_J5_init_2_79 (D : JD) (d : Nat) (Q : JO → JH → Prop) (r0 : Nat) (r3 : Nat) (x4 : Int32) (h : JH) : Prop :=
  r0 ≠ 0 ∧ wrt (jkd h r0) = true ∧ ∀ h_3 : JH, h_3 = wfi h 76 r0 (1 : Int32) → (cJ16_copyOfRange D d r3 (0 : Int32) (x4 <<< ((1 : Int32) &&& 31)) h_3 (pR D h_3 67 (fun v_7 h_5 => wrt (jkd h_5 r0) = true ∧ ∀ h_9 : JH, h_9 = wfr h_5 75 r0 v_7 → (W_J5_init_2_97 D d Q h_9)) (jth Q)))
theorem w_J5_init_2_79 {D : JD} {d : Nat} {Q : JO → JH → Prop} {r0 : Nat} {r3 : Nat} {x4 : Int32} {h : JH} (w : W_J5_init_2_79 D d Q r0 r3 x4 h) : JW D (d + 1) mJ5_init_2 79 [some (vR 64 r0), none, none, some (vR 67 r3), some (vI x4)] [] h Q := by
  unfold W_J5_init_2_79 at w
  refine jw_aload_n (pc' := 80) rfl rfl ?_
  refine jw_iconst (pc' := 81) (x := (1 : Int32)) rfl rfl ?_
  obtain ⟨g_1, w⟩ := w
  obtain ⟨g_2, w⟩ := w
  refine jw_putI' (pc' := 84) (F := 76) rfl rfl rfl (Or.inl g_2) (Or.inr ⟨rfl, rfl⟩) rfl (rfl) (rfl) rfl g_1 (fun h_3 e_4 => ?_)
  replace w := w h_3 e_4
  refine jw_aload_n (pc' := 85) rfl rfl ?_
  refine jw_aload_n (pc' := 86) rfl rfl ?_
  refine jw_iconst (pc' := 87) (x := (0 : Int32)) rfl rfl ?_
  refine jw_iload (pc' := 89) rfl rfl ?_
  refine jw_iconst (pc' := 90) (x := (1 : Int32)) rfl rfl ?_
  refine jw_ishl (pc' := 91) rfl ?_
  refine jw_cR (st := [vR 64 r0]) (sa := [vR 67 r3, vI (0 : Int32), vI (x4 <<< ((1 : Int32) &&& 31))]) okJ16_copyOfRange rfl rfl rfl rfl rfl rfl (jstp_static (sa := [vR 67 r3, vI (0 : Int32), vI (x4 <<< ((1 : Int32) &&& 31))]) (st := [vR 64 r0]) rfl rfl sJ16_copyOfRange okJ16_copyOfRange rfl rfl) w (fun v_7 h_5 _ _ _ w => ?_)
  obtain ⟨g_8, w⟩ := w
  refine jw_putR' (pc' := 97) (F := 75) rfl rfl rfl (Or.inl g_8) (Or.inr ⟨rfl, rfl⟩) rfl rfl rfl g_1 (fun h_9 e_10 => ?_)
  replace w := w h_9 e_10
  refine jw_gen (ls' := [none, none, none, none, none]) (st' := []) (trivial) (trivial) ?_
  exact w_J5_init_2_97 w
def W_J5_init_2_0 (D : JD) (d : Nat) (Q : JO → JH → Prop) (r0 : Nat) (r1 : Nat) (h : JH) : Prop :=
  r0 ≠ 0 ∧ (r1 ≠ 0 ∧ (cJ12_getValue D d r1 h (pR D h 67 (fun v_5 h_3 => cJ13_length D d r1 h_3 (pI D h_3 (fun v_8 h_6 => cJ12_isLatin1 D d r1 h_6 (pI D h_6 (fun v_11 h_9 => (v_11 = 0 → ((jfi h_9 73 r1) = 0 → W_J5_init_2_79 D d Q r0 v_5 v_8 h_9) ∧ (¬ (jfi h_9 73 r1) = 0 → cJ10_compress D d v_5 (0 : Int32) v_8 h_9 (pR D h_9 67 (fun v_17 h_15 => wrt (jkd h_15 r0) = true ∧ ∀ h_19 : JH, h_19 = wfr h_15 75 r0 v_17 → (cJ10_coderFromArrayLen D d (jfr h_19 75 r0) v_8 h_19 (pI D h_19 (fun v_23 h_21 => wrt (jkd h_21 r0) = true ∧ jby v_23 ∧ ∀ h_26 : JH, h_26 = wfi h_21 76 r0 v_23 → (Q (.inl none) h_26)) (jth Q)))) (jth Q)))) ∧ (¬ v_11 = 0 → wrt (jkd h_9 r0) = true ∧ ∀ h_29 : JH, h_29 = wfi h_9 76 r0 (0 : Int32) → (cJ16_copyOfRange D d v_5 (0 : Int32) v_8 h_29 (pR D h_29 67 (fun v_33 h_31 => wrt (jkd h_31 r0) = true ∧ ∀ h_35 : JH, h_35 = wfr h_31 75 r0 v_33 → (W_J5_init_2_97 D d Q h_35)) (jth Q))))) (jth Q))) (jth Q))) (jth Q))))
theorem w_J5_init_2_0 {D : JD} {d : Nat} {Q : JO → JH → Prop} {r0 : Nat} {r1 : Nat} {h : JH} (w : W_J5_init_2_0 D d Q r0 r1 h) : JW D (d + 1) mJ5_init_2 0 [some (vR 64 r0), some (vR 62 r1), none, none, none] [] h Q := by
  unfold W_J5_init_2_0 at w
  refine jw_aload_n (pc' := 1) rfl rfl ?_
  obtain ⟨g_1, w⟩ := w
  refine jw_obj (pc' := 4) rfl (lw_g (jtb_mem (c := 4) (i := 26) rfl) rfl) rfl g_1 ?_
  refine jw_aload_n (pc' := 5) rfl rfl ?_
  obtain ⟨g_2, w⟩ := w
  refine jw_cR (st := []) (sa := [vR 62 r1]) okJ12_getValue rfl rfl rfl rfl rfl rfl (jstp_up (sa := []) (st := []) rfl (lw_g (jtb_mem (c := 4) (i := 27) rfl) rfl) um2 okJ12_getValue g_2 (one62.k g_2) rfl rfl) w (fun v_5 h_3 _ _ _ w => ?_)
  refine jw_astore_n (pc' := 9) (ls' := [some (vR 64 r0), some (vR 62 r1), none, some (vR 67 v_5), none]) rfl (by decide) rfl ?_
  refine jw_aload_n (pc' := 10) rfl rfl ?_
  refine JW.inv (fun hI => JW.oks (fun ho => ?_))
  have hkd := und62.k hI (ho (vR 62 r1) (by simp)) g_2
  simp only [List.mem_cons, List.not_mem_nil, or_false] at hkd
  clear ho hI
  have e_37 := hkd
  · refine jw_gen (ls' := _) (st' := [vR 11 r1]) (jgl_rf _ _) (And.intro (Or.inr ⟨_, _, _, rfl, rfl, Or.inr (Or.inr (by rw [e_37]; rfl))⟩) (jgs_rf _ _)) ?_
    refine jw_cI (st := []) (sa := [vR 11 r1]) okJ13_length rfl rfl rfl rfl rfl rfl (jstp_up (sa := []) (st := []) rfl (lw_g (jtb_mem (c := 4) (i := 32) rfl) rfl) um1 okJ13_length g_2 (fun _ _ => by rw [e_37]; exact ⟨rfl, rfl⟩) rfl rfl) w (fun v_8 h_6 _ _ w => ?_)
    refine jw_istore (pc' := 15) (ls' := [some (vR 64 r0), some (vR 62 r1), none, some (vR 67 v_5), some (vI v_8)]) rfl (by decide) rfl ?_
    refine jw_aload_n (pc' := 16) rfl rfl ?_
    refine jw_cI (st := []) (sa := [vR 62 r1]) okJ12_isLatin1 rfl rfl rfl rfl rfl rfl (jstp_up (sa := []) (st := []) rfl (lw_g (jtb_mem (c := 4) (i := 40) rfl) rfl) um0 okJ12_isLatin1 g_2 (one62.k g_2) rfl rfl) w (fun v_11 h_9 _ _ w => ?_)
    refine jw_if_eq (tgt := 41) (pc' := 22) rfl rfl (fun c_12 => ?_) (fun c_12 => ?_)
    · replace w := w.1 c_12
      refine jw_getsI (pc' := 44) (v := (1 : Int32)) rfl rfl (by decide +kernel) ?_
      refine jw_if_eq (tgt := 79) (pc' := 47) rfl rfl (fun c_13 => absurd c_13 (by decide)) (fun _ => ?_)
      refine jw_aload_n (pc' := 48) rfl rfl ?_
      refine jw_getI (pc' := 51) (F := 73) rfl rfl rfl rfl g_2 ?_
      refine jw_if_eq (tgt := 79) (pc' := 54) rfl rfl (fun c_14 => ?_) (fun c_14 => ?_)
      · replace w := w.1 c_14
        refine jw_gen (ls' := [some (vR 64 r0), none, none, some (vR 67 v_5), some (vI v_8)]) (st' := []) (And.intro (Or.inl rfl) (And.intro (Or.inl rfl) (And.intro (Or.inl rfl) (trivial)))) (trivial) ?_
        exact w_J5_init_2_79 w
      · replace w := w.2 c_14
        refine jw_aload_n (pc' := 55) rfl rfl ?_
        refine jw_aload_n (pc' := 56) rfl rfl ?_
        refine jw_iconst (pc' := 57) (x := (0 : Int32)) rfl rfl ?_
        refine jw_iload (pc' := 59) rfl rfl ?_
        refine jw_cR (st := [vR 64 r0]) (sa := [vR 67 v_5, vI (0 : Int32), vI v_8]) okJ10_compress rfl rfl rfl rfl rfl rfl (jstp_static (sa := [vR 67 v_5, vI (0 : Int32), vI v_8]) (st := [vR 64 r0]) rfl rfl sJ10_compress okJ10_compress rfl rfl) w (fun v_17 h_15 _ _ _ w => ?_)
        obtain ⟨g_18, w⟩ := w
        refine jw_putR' (pc' := 65) (F := 75) rfl rfl rfl (Or.inl g_18) (Or.inr ⟨rfl, rfl⟩) rfl rfl rfl g_1 (fun h_19 e_20 => ?_)
        replace w := w h_19 e_20
        refine jw_aload_n (pc' := 66) rfl rfl ?_
        refine jw_aload_n (pc' := 67) rfl rfl ?_
        refine jw_getR (pc' := 70) (F := 75) (t' := 67) rfl rfl rfl rfl rfl g_1 ?_
        refine jw_iload (pc' := 72) rfl rfl ?_
        refine jw_cI (st := [vR 64 r0]) (sa := [vR 67 (jfr h_19 75 r0), vI v_8]) okJ10_coderFromArrayLen rfl rfl rfl rfl rfl rfl (jstp_static (sa := [vR 67 (jfr h_19 75 r0), vI v_8]) (st := [vR 64 r0]) rfl rfl sJ10_coderFromArrayLen okJ10_coderFromArrayLen rfl rfl) w (fun v_23 h_21 _ _ w => ?_)
        obtain ⟨g_24, w⟩ := w
        obtain ⟨g_25, w⟩ := w
        refine jw_putI' (pc' := 78) (F := 76) rfl rfl rfl (Or.inl g_24) (Or.inr ⟨rfl, rfl⟩) rfl (g_25.nr) (g_25.ft) rfl g_1 (fun h_26 e_27 => ?_)
        replace w := w h_26 e_27
        exact jw_return rfl rfl w
    · replace w := w.2 c_12
      refine jw_aload_n (pc' := 23) rfl rfl ?_
      refine jw_iconst (pc' := 24) (x := (0 : Int32)) rfl rfl ?_
      obtain ⟨g_28, w⟩ := w
      refine jw_putI' (pc' := 27) (F := 76) rfl rfl rfl (Or.inl g_28) (Or.inr ⟨rfl, rfl⟩) rfl (rfl) (rfl) rfl g_1 (fun h_29 e_30 => ?_)
      replace w := w h_29 e_30
      refine jw_aload_n (pc' := 28) rfl rfl ?_
      refine jw_aload_n (pc' := 29) rfl rfl ?_
      refine jw_iconst (pc' := 30) (x := (0 : Int32)) rfl rfl ?_
      refine jw_iload (pc' := 32) rfl rfl ?_
      refine jw_cR (st := [vR 64 r0]) (sa := [vR 67 v_5, vI (0 : Int32), vI v_8]) okJ16_copyOfRange rfl rfl rfl rfl rfl rfl (jstp_static (sa := [vR 67 v_5, vI (0 : Int32), vI v_8]) (st := [vR 64 r0]) rfl rfl sJ16_copyOfRange okJ16_copyOfRange rfl rfl) w (fun v_33 h_31 _ _ _ w => ?_)
      obtain ⟨g_34, w⟩ := w
      refine jw_putR' (pc' := 38) (F := 75) rfl rfl rfl (Or.inl g_34) (Or.inr ⟨rfl, rfl⟩) rfl rfl rfl g_1 (fun h_35 e_36 => ?_)
      replace w := w h_35 e_36
      refine jw_goto (pc' := 97) rfl rfl ?_
      refine jw_gen (ls' := [none, none, none, none, none]) (st' := []) (trivial) (trivial) ?_
      exact w_J5_init_2_97 w
def T_J5_init_2 (D : JD) (d : Nat) (Q : JO → JH → Prop) (r0 : Nat) (r1 : Nat) (r2 : Nat) (h : JH) : Prop := W_J5_init_2_0 D d Q r0 r1 h
theorem t_J5_init_2 {D : JD} {d : Nat} {Q : JO → JH → Prop} {r0 : Nat} {r1 : Nat} {r2 : Nat} {h : JH} (w : T_J5_init_2 D d Q r0 r1 r2 h) : cJ5_init_2 D (d + 1) r0 r1 r2 h Q := by
  unfold T_J5_init_2 at w
  unfold cJ5_init_2
  refine jw_gen (ls' := [some (vR 64 r0), some (vR 62 r1), none, none, none]) (st' := []) (And.intro (Or.inl rfl) (And.intro (Or.inl rfl) (trivial))) (trivial) ?_
  exact w_J5_init_2_0 w
def W_J5_checkBoundsBeginEnd_0 (D : JD) (d : Nat) (Q : JO → JH → Prop) (x0 : Int32) (x1 : Int32) (x2 : Int32) (h : JH) : Prop :=
  cJ9_checkFromToIndex D d x0 x1 x2 (jcs D 347) h (pI D h (fun v_3 h_1 => Q (.inl none) h_1) (jth Q))
theorem w_J5_checkBoundsBeginEnd_0 {D : JD} {d : Nat} {Q : JO → JH → Prop} {x0 : Int32} {x1 : Int32} {x2 : Int32} {h : JH} (w : W_J5_checkBoundsBeginEnd_0 D d Q x0 x1 x2 h) : JW D (d + 1) mJ5_checkBoundsBeginEnd 0 [some (vI x0), some (vI x1), some (vI x2)] [] h Q := by
  unfold W_J5_checkBoundsBeginEnd_0 at w
  refine jw_iload_n (pc' := 1) rfl rfl ?_
  refine jw_iload_n (pc' := 2) rfl rfl ?_
  refine jw_iload_n (pc' := 3) rfl rfl ?_
  refine jw_getsR (pc' := 6) rfl rfl rfl rfl ?_
  refine jw_cI (st := []) (sa := [vI x0, vI x1, vI x2, vR 95 (jcs D 347)]) okJ9_checkFromToIndex rfl rfl rfl rfl rfl rfl (jstp_static (sa := [vI x0, vI x1, vI x2, vR 95 (jcs D 347)]) (st := []) rfl rfl sJ9_checkFromToIndex okJ9_checkFromToIndex rfl rfl) w (fun v_3 h_1 _ _ w => ?_)
  refine jw_pop (pc' := 10) rfl rfl ?_
  exact jw_return rfl rfl w
def T_J5_checkBoundsBeginEnd (D : JD) (d : Nat) (Q : JO → JH → Prop) (x0 : Int32) (x1 : Int32) (x2 : Int32) (h : JH) : Prop := W_J5_checkBoundsBeginEnd_0 D d Q x0 x1 x2 h
theorem t_J5_checkBoundsBeginEnd {D : JD} {d : Nat} {Q : JO → JH → Prop} {x0 : Int32} {x1 : Int32} {x2 : Int32} {h : JH} (w : T_J5_checkBoundsBeginEnd D d Q x0 x1 x2 h) : cJ5_checkBoundsBeginEnd D (d + 1) x0 x1 x2 h Q := by
  unfold T_J5_checkBoundsBeginEnd at w
  unfold cJ5_checkBoundsBeginEnd
  exact w_J5_checkBoundsBeginEnd_0 w
def W_J5_length_0 (D : JD) (d : Nat) (Q : JO → JH → Prop) (r0 : Nat) (h : JH) : Prop :=
  r0 ≠ 0 ∧ ((jfr h 75 r0) ≠ 0 ∧ (cJ5_coder D d r0 h (pI D h (fun v_5 h_3 => Q (.inl (some (vI ((nI (jln h (jfr h 75 r0))) >>> (v_5 &&& 31))))) h_3) (jth Q))))
theorem w_J5_length_0 {D : JD} {d : Nat} {Q : JO → JH → Prop} {r0 : Nat} {h : JH} (w : W_J5_length_0 D d Q r0 h) : JW D (d + 1) mJ5_length 0 [some (vR 64 r0)] [] h Q := by
  unfold W_J5_length_0 at w
  refine jw_aload_n (pc' := 1) rfl rfl ?_
  obtain ⟨g_1, w⟩ := w
  refine jw_getR (pc' := 4) (F := 75) (t' := 67) rfl rfl rfl rfl rfl g_1 ?_
  obtain ⟨g_2, w⟩ := w
  refine jw_alen (pc' := 5) rfl rfl g_2 ?_
  refine jw_aload_n (pc' := 6) rfl rfl ?_
  refine jw_cI (st := [vI (nI (jln h (jfr h 75 r0)))]) (sa := [vR 64 r0]) okJ5_coder rfl rfl rfl rfl rfl rfl (jstp_virtual (sa := []) (st := [vI (nI (jln h (jfr h 75 r0)))]) (k := 0) rfl rfl sJ5_coder okJ5_coder g_1 (one64.k g_1) rfl rfl) w (fun v_5 h_3 _ _ w => ?_)
  refine jw_ishr (pc' := 10) rfl ?_
  exact jw_ireturn rfl rfl (rfl) w
def T_J5_length (D : JD) (d : Nat) (Q : JO → JH → Prop) (r0 : Nat) (h : JH) : Prop := W_J5_length_0 D d Q r0 h
theorem t_J5_length {D : JD} {d : Nat} {Q : JO → JH → Prop} {r0 : Nat} {h : JH} (w : T_J5_length D d Q r0 h) : cJ5_length D (d + 1) r0 h Q := by
  unfold T_J5_length at w
  unfold cJ5_length
  exact w_J5_length_0 w
def W_J5_coder_14 (D : JD) (d : Nat) (Q : JO → JH → Prop) (s0 : Int32) (h : JH) : Prop :=
  narrow .byte (.int s0) = .int s0 ∧ (Q (.inl (some (vI s0))) h)
theorem w_J5_coder_14 {D : JD} {d : Nat} {Q : JO → JH → Prop} {s0 : Int32} {h : JH} (w : W_J5_coder_14 D d Q s0 h) : JW D (d + 1) mJ5_coder 14 [none] [vI s0] h Q := by
  unfold W_J5_coder_14 at w
  obtain ⟨g_1, w⟩ := w
  exact jw_ireturn rfl rfl (g_1) w
def W_J5_coder_0 (D : JD) (d : Nat) (Q : JO → JH → Prop) (r0 : Nat) (h : JH) : Prop :=
  r0 ≠ 0 ∧ (W_J5_coder_14 D d Q (jfi h 76 r0) h)
theorem w_J5_coder_0 {D : JD} {d : Nat} {Q : JO → JH → Prop} {r0 : Nat} {h : JH} (w : W_J5_coder_0 D d Q r0 h) : JW D (d + 1) mJ5_coder 0 [some (vR 64 r0)] [] h Q := by
  unfold W_J5_coder_0 at w
  refine jw_getsI (pc' := 3) (v := (1 : Int32)) rfl rfl (by decide +kernel) ?_
  refine jw_if_eq (tgt := 13) (pc' := 6) rfl rfl (fun c_1 => absurd c_1 (by decide)) (fun _ => ?_)
  refine jw_aload_n (pc' := 7) rfl rfl ?_
  obtain ⟨g_2, w⟩ := w
  refine jw_getI (pc' := 10) (F := 76) rfl rfl rfl rfl g_2 ?_
  refine jw_goto (pc' := 14) rfl rfl ?_
  refine jw_gen (ls' := [none]) (st' := [vI (jfi h 76 r0)]) (trivial) (And.intro (Or.inl rfl) (trivial)) ?_
  exact w_J5_coder_14 w
def T_J5_coder (D : JD) (d : Nat) (Q : JO → JH → Prop) (r0 : Nat) (h : JH) : Prop := W_J5_coder_0 D d Q r0 h
theorem t_J5_coder {D : JD} {d : Nat} {Q : JO → JH → Prop} {r0 : Nat} {h : JH} (w : T_J5_coder D d Q r0 h) : cJ5_coder D (d + 1) r0 h Q := by
  unfold T_J5_coder at w
  unfold cJ5_coder
  exact w_J5_coder_0 w
def W_J5_getBytes_43 (D : JD) (d : Nat) (Q : JO → JH → Prop) (h : JH) : Prop :=
  Q (.inl none) h
theorem w_J5_getBytes_43 {D : JD} {d : Nat} {Q : JO → JH → Prop} {h : JH} (w : W_J5_getBytes_43 D d Q h) : JW D (d + 1) mJ5_getBytes 43 [none, none, none, none] [] h Q := by
  unfold W_J5_getBytes_43 at w
  exact jw_return rfl rfl w
def W_J5_getBytes_0 (D : JD) (d : Nat) (Q : JO → JH → Prop) (r0 : Nat) (r1 : Nat) (x2 : Int32) (x3 : Int32) (h : JH) : Prop :=
  r0 ≠ 0 ∧ (cJ5_coder D d r0 h (pI D h (fun v_4 h_2 => (¬ v_4 = x3 → (jfr h_2 75 r0) ≠ 0 ∧ (cJ8_inflate D d (jfr h_2 75 r0) (0 : Int32) r1 x2 (nI (jln h_2 (jfr h_2 75 r0))) h_2 (pV D h_2 (fun h_7 => W_J5_getBytes_43 D d Q h_7) (jth Q)))) ∧ (v_4 = x3 → (jfr h_2 75 r0) ≠ 0 ∧ ((r1 = 0 ∨ sbt (jkd h_2 r1) 65 = true) ∧ r1 ≠ 0 ∧ jcpy h_2 (jfr h_2 75 r0) (0 : Int32) r1 (x2 <<< (x3 &&& 31)) (nI (jln h_2 (jfr h_2 75 r0))) ∧ ∀ h_14 : JH, h_14 = cpa h_2 (jfr h_2 75 r0) (ixn (0 : Int32)) r1 (ixn (x2 <<< (x3 &&& 31))) (ixn (nI (jln h_2 (jfr h_2 75 r0)))) → (W_J5_getBytes_43 D d Q h_14)))) (jth Q)))
theorem w_J5_getBytes_0 {D : JD} {d : Nat} {Q : JO → JH → Prop} {r0 : Nat} {r1 : Nat} {x2 : Int32} {x3 : Int32} {h : JH} (w : W_J5_getBytes_0 D d Q r0 r1 x2 x3 h) : JW D (d + 1) mJ5_getBytes 0 [some (vR 64 r0), some (vR 67 r1), some (vI x2), some (vI x3)] [] h Q := by
  unfold W_J5_getBytes_0 at w
  refine jw_aload_n (pc' := 1) rfl rfl ?_
  obtain ⟨g_1, w⟩ := w
  refine jw_cI (st := []) (sa := [vR 64 r0]) okJ5_coder rfl rfl rfl rfl rfl rfl (jstp_virtual (sa := []) (st := []) (k := 0) rfl rfl sJ5_coder okJ5_coder g_1 (one64.k g_1) rfl rfl) w (fun v_4 h_2 _ _ w => ?_)
  refine jw_iload_n (pc' := 5) rfl rfl ?_
  refine jw_icmp_ne (tgt := 28) (pc' := 8) rfl rfl (fun c_5 => ?_) (fun c_5 => ?_)
  · replace w := w.1 c_5
    refine jw_aload_n (pc' := 29) rfl rfl ?_
    refine jw_getR (pc' := 32) (F := 75) (t' := 67) rfl rfl rfl rfl rfl g_1 ?_
    refine jw_iconst (pc' := 33) (x := (0 : Int32)) rfl rfl ?_
    refine jw_aload_n (pc' := 34) rfl rfl ?_
    refine jw_iload_n (pc' := 35) rfl rfl ?_
    refine jw_aload_n (pc' := 36) rfl rfl ?_
    refine jw_getR (pc' := 39) (F := 75) (t' := 67) rfl rfl rfl rfl rfl g_1 ?_
    obtain ⟨g_6, w⟩ := w
    refine jw_alen (pc' := 40) rfl rfl g_6 ?_
    refine jw_cV (st := []) (sa := [vR 67 (jfr h_2 75 r0), vI (0 : Int32), vR 67 r1, vI x2, vI (nI (jln h_2 (jfr h_2 75 r0)))]) okJ8_inflate rfl rfl rfl rfl rfl rfl (jstp_static (sa := [vR 67 (jfr h_2 75 r0), vI (0 : Int32), vR 67 r1, vI x2, vI (nI (jln h_2 (jfr h_2 75 r0)))]) (st := []) rfl rfl sJ8_inflate okJ8_inflate rfl rfl) w (fun h_7 _ _ w => ?_)
    refine jw_gen (ls' := [none, none, none, none]) (st' := []) (trivial) (trivial) ?_
    exact w_J5_getBytes_43 w
  · replace w := w.2 c_5
    refine jw_aload_n (pc' := 9) rfl rfl ?_
    refine jw_getR (pc' := 12) (F := 75) (t' := 67) rfl rfl rfl rfl rfl g_1 ?_
    refine jw_iconst (pc' := 13) (x := (0 : Int32)) rfl rfl ?_
    refine jw_aload_n (pc' := 14) rfl rfl ?_
    refine jw_iload_n (pc' := 15) rfl rfl ?_
    refine jw_iload_n (pc' := 16) rfl rfl ?_
    refine jw_ishl (pc' := 17) rfl ?_
    refine jw_aload_n (pc' := 18) rfl rfl ?_
    refine jw_getR (pc' := 21) (F := 75) (t' := 67) rfl rfl rfl rfl rfl g_1 ?_
    obtain ⟨g_10, w⟩ := w
    refine jw_alen (pc' := 22) rfl rfl g_10 ?_
    obtain ⟨g_11, w⟩ := w
    refine jw_gen (ls' := _) (st' := [vI (nI (jln h_2 (jfr h_2 75 r0))), vI (x2 <<< (x3 &&& 31)), vR 65 r1, vI (0 : Int32), vR 67 (jfr h_2 75 r0)]) (jgl_rf _ _) (And.intro (Or.inl rfl) (And.intro (Or.inl rfl) (And.intro (Or.inr ⟨_, _, _, rfl, rfl, Or.elim g_11 (fun z => Or.inl z) (fun z => Or.inr (Or.inr z))⟩) (And.intro (Or.inl rfl) (And.intro (Or.inl rfl) (trivial)))))) ?_
    obtain ⟨g_12, w⟩ := w
    obtain ⟨g_13, w⟩ := w
    refine jw_acopy' (pc' := 25) rfl (lw_g (jtb_mem (c := 4) (i := 132) rfl) rfl) rfl g_10 g_12 g_13 (fun h_14 e_15 => ?_)
    replace w := w h_14 e_15
    refine jw_goto (pc' := 43) rfl rfl ?_
    refine jw_gen (ls' := [none, none, none, none]) (st' := []) (trivial) (trivial) ?_
    exact w_J5_getBytes_43 w
def T_J5_getBytes (D : JD) (d : Nat) (Q : JO → JH → Prop) (r0 : Nat) (r1 : Nat) (x2 : Int32) (x3 : Int32) (h : JH) : Prop := W_J5_getBytes_0 D d Q r0 r1 x2 x3 h
theorem t_J5_getBytes {D : JD} {d : Nat} {Q : JO → JH → Prop} {r0 : Nat} {r1 : Nat} {x2 : Int32} {x3 : Int32} {h : JH} (w : T_J5_getBytes D d Q r0 r1 x2 x3 h) : cJ5_getBytes D (d + 1) r0 r1 x2 x3 h Q := by
  unfold T_J5_getBytes at w
  unfold cJ5_getBytes
  exact w_J5_getBytes_0 w
