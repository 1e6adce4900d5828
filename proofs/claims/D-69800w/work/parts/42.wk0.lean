/-! what each method needs (printed by tools/gen_wp.py) -/
set_option maxRecDepth 4000
def W_X0_feed_0 (D : JD) (d : Nat) (Q : JO → JH → Prop) (r0 : Nat) (x1 : Int32) (x2 : Int32) (x3 : Int32) (x4 : Int32) (x5 : Int32) (r6 : Nat) (h : JH) : Prop :=
  r0 ≠ 0 ∧ (cX1_feed D d r0 x1 x2 x3 x4 x5 h (pI D h (fun v_4 h_2 => r6 ≠ 0 ∧ jin (0 : Int32) (jln h_2 r6) ∧ ∀ h_7 : JH, h_7 = wal h_2 r6 (ixn (0 : Int32)) (Int32.toInt64 v_4) → (Q (.inl (some (vI (0 : Int32)))) h_7)) (fun x_9 h_10 => (jkd h_10 x_9 = 39 ∧ Q (.inl (some (vI (1 : Int32)))) h_10))))
theorem w_X0_feed_0 {D : JD} {d : Nat} {Q : JO → JH → Prop} {r0 : Nat} {x1 : Int32} {x2 : Int32} {x3 : Int32} {x4 : Int32} {x5 : Int32} {r6 : Nat} {h : JH} (w : W_X0_feed_0 D d Q r0 x1 x2 x3 x4 x5 r6 h) : JW D (d + 1) mX0_feed 0 [some (vR 1 r0), some (vI x1), some (vI x2), some (vI x3), some (vI x4), some (vI x5), some (vR 70 r6), none] [] h Q := by
  unfold W_X0_feed_0 at w
  refine jw_aload (pc' := 2) rfl rfl ?_
  refine jw_iconst (pc' := 3) (x := (0 : Int32)) rfl rfl ?_
  refine jw_aload_n (pc' := 4) rfl rfl ?_
  refine jw_iload_n (pc' := 5) rfl rfl ?_
  refine jw_iload_n (pc' := 6) rfl rfl ?_
  refine jw_iload_n (pc' := 7) rfl rfl ?_
  refine jw_iload (pc' := 9) rfl rfl ?_
  refine jw_iload (pc' := 11) rfl rfl ?_
  obtain ⟨g_1, w⟩ := w
  refine jw_cIH (st := [vI (0 : Int32), vR 70 r6]) (sa := [vR 1 r0, vI x1, vI x2, vI x3, vI x4, vI x5]) okX1_feed rfl rfl rfl rfl rfl (jstp_virtual (sa := [vI x1, vI x2, vI x3, vI x4, vI x5]) (st := [vI (0 : Int32), vR 70 r6]) (k := 0) rfl rfl sX1_feed okX1_feed g_1 (one1.k g_1) rfl rfl) w (fun v_4 h_2 _ _ w => ?_) (fun x_9 h_10 _ _ w => ?_)
  · refine jw_i2l (pc' := 15) rfl ?_
    obtain ⟨g_5, w⟩ := w
    obtain ⟨g_6, w⟩ := w
    refine jw_last' (pc' := 16) rfl rfl rfl rfl rfl g_5 g_6 (fun h_7 e_8 => ?_)
    replace w := w h_7 e_8
    refine jw_goto (pc' := 23) rfl rfl ?_
    refine jw_iconst (pc' := 24) (x := (0 : Int32)) rfl rfl ?_
    exact jw_ireturn rfl rfl (rfl) w
  · obtain ⟨e_11, w⟩ := w
    refine ⟨19, by rw [e_11]; rfl, by rw [e_11]; rfl, ?_⟩
    rw [e_11]
    refine jw_astore (pc' := 21) (ls' := [some (vR 1 r0), some (vI x1), some (vI x2), some (vI x3), some (vI x4), some (vI x5), some (vR 70 r6), some (vR 39 x_9)]) rfl (by decide) rfl ?_
    refine jw_iconst (pc' := 22) (x := (1 : Int32)) rfl rfl ?_
    exact jw_ireturn rfl rfl (rfl) w
def T_X0_feed (D : JD) (d : Nat) (Q : JO → JH → Prop) (r0 : Nat) (x1 : Int32) (x2 : Int32) (x3 : Int32) (x4 : Int32) (x5 : Int32) (r6 : Nat) (h : JH) : Prop := W_X0_feed_0 D d Q r0 x1 x2 x3 x4 x5 r6 h
theorem t_X0_feed {D : JD} {d : Nat} {Q : JO → JH → Prop} {r0 : Nat} {x1 : Int32} {x2 : Int32} {x3 : Int32} {x4 : Int32} {x5 : Int32} {r6 : Nat} {h : JH} (w : T_X0_feed D d Q r0 x1 x2 x3 x4 x5 r6 h) : cX0_feed D (d + 1) r0 x1 x2 x3 x4 x5 r6 h Q := by
  unfold T_X0_feed at w
  unfold cX0_feed
  exact w_X0_feed_0 w
def W_X0_end_0 (D : JD) (d : Nat) (Q : JO → JH → Prop) (r0 : Nat) (x1 : Int32) (r2 : Nat) (h : JH) : Prop :=
  r0 ≠ 0 ∧ (cX1_end D d r0 x1 h (pI D h (fun v_4 h_2 => r2 ≠ 0 ∧ jin (0 : Int32) (jln h_2 r2) ∧ ∀ h_7 : JH, h_7 = wal h_2 r2 (ixn (0 : Int32)) (Int32.toInt64 v_4) → (Q (.inl (some (vI (0 : Int32)))) h_7)) (fun x_9 h_10 => (jkd h_10 x_9 = 13 ∧ Q (.inl (some (vI (1 : Int32)))) h_10))))
theorem w_X0_end_0 {D : JD} {d : Nat} {Q : JO → JH → Prop} {r0 : Nat} {x1 : Int32} {r2 : Nat} {h : JH} (w : W_X0_end_0 D d Q r0 x1 r2 h) : JW D (d + 1) mX0_end 0 [some (vR 1 r0), some (vI x1), some (vR 70 r2), none] [] h Q := by
  unfold W_X0_end_0 at w
  refine jw_aload_n (pc' := 1) rfl rfl ?_
  refine jw_iconst (pc' := 2) (x := (0 : Int32)) rfl rfl ?_
  refine jw_aload_n (pc' := 3) rfl rfl ?_
  refine jw_iload_n (pc' := 4) rfl rfl ?_
  obtain ⟨g_1, w⟩ := w
  refine jw_cIH (st := [vI (0 : Int32), vR 70 r2]) (sa := [vR 1 r0, vI x1]) okX1_end rfl rfl rfl rfl rfl (jstp_virtual (sa := [vI x1]) (st := [vI (0 : Int32), vR 70 r2]) (k := 0) rfl rfl sX1_end okX1_end g_1 (one1.k g_1) rfl rfl) w (fun v_4 h_2 _ _ w => ?_) (fun x_9 h_10 _ _ w => ?_)
  · refine jw_i2l (pc' := 8) rfl ?_
    obtain ⟨g_5, w⟩ := w
    obtain ⟨g_6, w⟩ := w
    refine jw_last' (pc' := 9) rfl rfl rfl rfl rfl g_5 g_6 (fun h_7 e_8 => ?_)
    replace w := w h_7 e_8
    refine jw_goto (pc' := 15) rfl rfl ?_
    refine jw_iconst (pc' := 16) (x := (0 : Int32)) rfl rfl ?_
    exact jw_ireturn rfl rfl (rfl) w
  · obtain ⟨e_11, w⟩ := w
    refine ⟨12, by rw [e_11]; rfl, by rw [e_11]; rfl, ?_⟩
    rw [e_11]
    refine jw_astore_n (pc' := 13) (ls' := [some (vR 1 r0), some (vI x1), some (vR 70 r2), some (vR 13 x_9)]) rfl (by decide) rfl ?_
    refine jw_iconst (pc' := 14) (x := (1 : Int32)) rfl rfl ?_
    exact jw_ireturn rfl rfl (rfl) w
def T_X0_end (D : JD) (d : Nat) (Q : JO → JH → Prop) (r0 : Nat) (x1 : Int32) (r2 : Nat) (h : JH) : Prop := W_X0_end_0 D d Q r0 x1 r2 h
theorem t_X0_end {D : JD} {d : Nat} {Q : JO → JH → Prop} {r0 : Nat} {x1 : Int32} {r2 : Nat} {h : JH} (w : T_X0_end D d Q r0 x1 r2 h) : cX0_end D (d + 1) r0 x1 r2 h Q := by
  unfold T_X0_end at w
  unfold cX0_end
  exact w_X0_end_0 w
def W_X0_put_0 (D : JD) (d : Nat) (Q : JO → JH → Prop) (r0 : Nat) (r1 : Nat) (h : JH) : Prop :=
  r0 ≠ 0 ∧ (cX1_put D d r0 h (pI D h (fun v_4 h_2 => r1 ≠ 0 ∧ jin (0 : Int32) (jln h_2 r1) ∧ ∀ h_7 : JH, h_7 = wal h_2 r1 (ixn (0 : Int32)) (Int32.toInt64 v_4) → (Q (.inl (some (vI (0 : Int32)))) h_7)) (fun x_9 h_10 => (jkd h_10 x_9 = 40 ∧ Q (.inl (some (vI (1 : Int32)))) h_10) ∨ (jkd h_10 x_9 = 39 ∧ Q (.inl (some (vI (2 : Int32)))) h_10))))
theorem w_X0_put_0 {D : JD} {d : Nat} {Q : JO → JH → Prop} {r0 : Nat} {r1 : Nat} {h : JH} (w : W_X0_put_0 D d Q r0 r1 h) : JW D (d + 1) mX0_put 0 [some (vR 1 r0), some (vR 70 r1), none] [] h Q := by
  unfold W_X0_put_0 at w
  refine jw_aload_n (pc' := 1) rfl rfl ?_
  refine jw_iconst (pc' := 2) (x := (0 : Int32)) rfl rfl ?_
  refine jw_aload_n (pc' := 3) rfl rfl ?_
  obtain ⟨g_1, w⟩ := w
  refine jw_cIH (st := [vI (0 : Int32), vR 70 r1]) (sa := [vR 1 r0]) okX1_put rfl rfl rfl rfl rfl (jstp_virtual (sa := []) (st := [vI (0 : Int32), vR 70 r1]) (k := 0) rfl rfl sX1_put okX1_put g_1 (one1.k g_1) rfl rfl) w (fun v_4 h_2 _ _ w => ?_) (fun x_9 h_10 _ _ w => ?_)
  · refine jw_i2l (pc' := 7) rfl ?_
    obtain ⟨g_5, w⟩ := w
    obtain ⟨g_6, w⟩ := w
    refine jw_last' (pc' := 8) rfl rfl rfl rfl rfl g_5 g_6 (fun h_7 e_8 => ?_)
    replace w := w h_7 e_8
    refine jw_goto (pc' := 17) rfl rfl ?_
    refine jw_iconst (pc' := 18) (x := (0 : Int32)) rfl rfl ?_
    exact jw_ireturn rfl rfl (rfl) w
  · rcases w with ⟨e_11, w⟩ | ⟨e_11, w⟩
    · refine ⟨11, by rw [e_11]; rfl, by rw [e_11]; rfl, ?_⟩
      rw [e_11]
      refine jw_astore_n (pc' := 12) (ls' := [some (vR 1 r0), some (vR 70 r1), some (vR 40 x_9)]) rfl (by decide) rfl ?_
      refine jw_iconst (pc' := 13) (x := (1 : Int32)) rfl rfl ?_
      exact jw_ireturn rfl rfl (rfl) w
    · refine ⟨14, by rw [e_11]; rfl, by rw [e_11]; rfl, ?_⟩
      rw [e_11]
      refine jw_astore_n (pc' := 15) (ls' := [some (vR 1 r0), some (vR 70 r1), some (vR 39 x_9)]) rfl (by decide) rfl ?_
      refine jw_iconst (pc' := 16) (x := (2 : Int32)) rfl rfl ?_
      exact jw_ireturn rfl rfl (rfl) w
def T_X0_put (D : JD) (d : Nat) (Q : JO → JH → Prop) (r0 : Nat) (r1 : Nat) (h : JH) : Prop := W_X0_put_0 D d Q r0 r1 h
theorem t_X0_put {D : JD} {d : Nat} {Q : JO → JH → Prop} {r0 : Nat} {r1 : Nat} {h : JH} (w : T_X0_put D d Q r0 r1 h) : cX0_put D (d + 1) r0 r1 h Q := by
  unfold T_X0_put at w
  unfold cX0_put
  exact w_X0_put_0 w
def W_X0_ask_0 (D : JD) (d : Nat) (Q : JO → JH → Prop) (r0 : Nat) (r1 : Nat) (h : JH) : Prop :=
  r0 ≠ 0 ∧ (cX1_ask D d r0 h (pI D h (fun v_4 h_2 => r1 ≠ 0 ∧ jin (0 : Int32) (jln h_2 r1) ∧ ∀ h_7 : JH, h_7 = wal h_2 r1 (ixn (0 : Int32)) (Int32.toInt64 v_4) → (Q (.inl (some (vI (0 : Int32)))) h_7)) (fun x_9 h_10 => (jkd h_10 x_9 = 40 ∧ Q (.inl (some (vI (1 : Int32)))) h_10) ∨ (jkd h_10 x_9 = 39 ∧ Q (.inl (some (vI (2 : Int32)))) h_10))))
theorem w_X0_ask_0 {D : JD} {d : Nat} {Q : JO → JH → Prop} {r0 : Nat} {r1 : Nat} {h : JH} (w : W_X0_ask_0 D d Q r0 r1 h) : JW D (d + 1) mX0_ask 0 [some (vR 1 r0), some (vR 70 r1), none] [] h Q := by
  unfold W_X0_ask_0 at w
  refine jw_aload_n (pc' := 1) rfl rfl ?_
  refine jw_iconst (pc' := 2) (x := (0 : Int32)) rfl rfl ?_
  refine jw_aload_n (pc' := 3) rfl rfl ?_
  obtain ⟨g_1, w⟩ := w
  refine jw_cIH (st := [vI (0 : Int32), vR 70 r1]) (sa := [vR 1 r0]) okX1_ask rfl rfl rfl rfl rfl (jstp_virtual (sa := []) (st := [vI (0 : Int32), vR 70 r1]) (k := 0) rfl rfl sX1_ask okX1_ask g_1 (one1.k g_1) rfl rfl) w (fun v_4 h_2 _ _ w => ?_) (fun x_9 h_10 _ _ w => ?_)
  · refine jw_i2l (pc' := 7) rfl ?_
    obtain ⟨g_5, w⟩ := w
    obtain ⟨g_6, w⟩ := w
    refine jw_last' (pc' := 8) rfl rfl rfl rfl rfl g_5 g_6 (fun h_7 e_8 => ?_)
    replace w := w h_7 e_8
    refine jw_goto (pc' := 17) rfl rfl ?_
    refine jw_iconst (pc' := 18) (x := (0 : Int32)) rfl rfl ?_
    exact jw_ireturn rfl rfl (rfl) w
  · rcases w with ⟨e_11, w⟩ | ⟨e_11, w⟩
    · refine ⟨11, by rw [e_11]; rfl, by rw [e_11]; rfl, ?_⟩
      rw [e_11]
      refine jw_astore_n (pc' := 12) (ls' := [some (vR 1 r0), some (vR 70 r1), some (vR 40 x_9)]) rfl (by decide) rfl ?_
      refine jw_iconst (pc' := 13) (x := (1 : Int32)) rfl rfl ?_
      exact jw_ireturn rfl rfl (rfl) w
    · refine ⟨14, by rw [e_11]; rfl, by rw [e_11]; rfl, ?_⟩
      rw [e_11]
      refine jw_astore_n (pc' := 15) (ls' := [some (vR 1 r0), some (vR 70 r1), some (vR 39 x_9)]) rfl (by decide) rfl ?_
      refine jw_iconst (pc' := 16) (x := (2 : Int32)) rfl rfl ?_
      exact jw_ireturn rfl rfl (rfl) w
def T_X0_ask (D : JD) (d : Nat) (Q : JO → JH → Prop) (r0 : Nat) (r1 : Nat) (h : JH) : Prop := W_X0_ask_0 D d Q r0 r1 h
theorem t_X0_ask {D : JD} {d : Nat} {Q : JO → JH → Prop} {r0 : Nat} {r1 : Nat} {h : JH} (w : T_X0_ask D d Q r0 r1 h) : cX0_ask D (d + 1) r0 r1 h Q := by
  unfold T_X0_ask at w
  unfold cX0_ask
  exact w_X0_ask_0 w
def W_X0_greet_0 (D : JD) (d : Nat) (Q : JO → JH → Prop) (r0 : Nat) (r1 : Nat) (h : JH) : Prop :=
  r0 ≠ 0 ∧ (cX1_greet D d r0 h (pI D h (fun v_4 h_2 => r1 ≠ 0 ∧ jin (0 : Int32) (jln h_2 r1) ∧ ∀ h_7 : JH, h_7 = wal h_2 r1 (ixn (0 : Int32)) (Int32.toInt64 v_4) → (Q (.inl (some (vI (0 : Int32)))) h_7)) (fun x_9 h_10 => (jkd h_10 x_9 = 40 ∧ Q (.inl (some (vI (1 : Int32)))) h_10) ∨ (jkd h_10 x_9 = 39 ∧ Q (.inl (some (vI (2 : Int32)))) h_10))))
theorem w_X0_greet_0 {D : JD} {d : Nat} {Q : JO → JH → Prop} {r0 : Nat} {r1 : Nat} {h : JH} (w : W_X0_greet_0 D d Q r0 r1 h) : JW D (d + 1) mX0_greet 0 [some (vR 1 r0), some (vR 70 r1), none] [] h Q := by
  unfold W_X0_greet_0 at w
  refine jw_aload_n (pc' := 1) rfl rfl ?_
  refine jw_iconst (pc' := 2) (x := (0 : Int32)) rfl rfl ?_
  refine jw_aload_n (pc' := 3) rfl rfl ?_
  obtain ⟨g_1, w⟩ := w
  refine jw_cIH (st := [vI (0 : Int32), vR 70 r1]) (sa := [vR 1 r0]) okX1_greet rfl rfl rfl rfl rfl (jstp_virtual (sa := []) (st := [vI (0 : Int32), vR 70 r1]) (k := 0) rfl rfl sX1_greet okX1_greet g_1 (one1.k g_1) rfl rfl) w (fun v_4 h_2 _ _ w => ?_) (fun x_9 h_10 _ _ w => ?_)
  · refine jw_i2l (pc' := 7) rfl ?_
    obtain ⟨g_5, w⟩ := w
    obtain ⟨g_6, w⟩ := w
    refine jw_last' (pc' := 8) rfl rfl rfl rfl rfl g_5 g_6 (fun h_7 e_8 => ?_)
    replace w := w h_7 e_8
    refine jw_goto (pc' := 17) rfl rfl ?_
    refine jw_iconst (pc' := 18) (x := (0 : Int32)) rfl rfl ?_
    exact jw_ireturn rfl rfl (rfl) w
  · rcases w with ⟨e_11, w⟩ | ⟨e_11, w⟩
    · refine ⟨11, by rw [e_11]; rfl, by rw [e_11]; rfl, ?_⟩
      rw [e_11]
      refine jw_astore_n (pc' := 12) (ls' := [some (vR 1 r0), some (vR 70 r1), some (vR 40 x_9)]) rfl (by decide) rfl ?_
      refine jw_iconst (pc' := 13) (x := (1 : Int32)) rfl rfl ?_
      exact jw_ireturn rfl rfl (rfl) w
    · refine ⟨14, by rw [e_11]; rfl, by rw [e_11]; rfl, ?_⟩
      rw [e_11]
      refine jw_astore_n (pc' := 15) (ls' := [some (vR 1 r0), some (vR 70 r1), some (vR 39 x_9)]) rfl (by decide) rfl ?_
      refine jw_iconst (pc' := 16) (x := (2 : Int32)) rfl rfl ?_
      exact jw_ireturn rfl rfl (rfl) w
def T_X0_greet (D : JD) (d : Nat) (Q : JO → JH → Prop) (r0 : Nat) (r1 : Nat) (h : JH) : Prop := W_X0_greet_0 D d Q r0 r1 h
theorem t_X0_greet {D : JD} {d : Nat} {Q : JO → JH → Prop} {r0 : Nat} {r1 : Nat} {h : JH} (w : T_X0_greet D d Q r0 r1 h) : cX0_greet D (d + 1) r0 r1 h Q := by
  unfold T_X0_greet at w
  unfold cX0_greet
  exact w_X0_greet_0 w
def W_X0_word_0 (D : JD) (d : Nat) (Q : JO → JH → Prop) (r0 : Nat) (x1 : Int32) (r2 : Nat) (h : JH) : Prop :=
  r0 ≠ 0 ∧ (cX1_word D d r0 x1 h (pL D h (fun v_3 h_2 => r2 ≠ 0 ∧ jin (0 : Int32) (jln h_2 r2) ∧ ∀ h_6 : JH, h_6 = wal h_2 r2 (ixn (0 : Int32)) v_3 → (Q (.inl (some (vI (0 : Int32)))) h_6)) (fun x_8 h_9 => (jkd h_9 x_8 = 39 ∧ Q (.inl (some (vI (1 : Int32)))) h_9))))
theorem w_X0_word_0 {D : JD} {d : Nat} {Q : JO → JH → Prop} {r0 : Nat} {x1 : Int32} {r2 : Nat} {h : JH} (w : W_X0_word_0 D d Q r0 x1 r2 h) : JW D (d + 1) mX0_word 0 [some (vR 1 r0), some (vI x1), some (vR 70 r2), none] [] h Q := by
  unfold W_X0_word_0 at w
  refine jw_aload_n (pc' := 1) rfl rfl ?_
  refine jw_iconst (pc' := 2) (x := (0 : Int32)) rfl rfl ?_
  refine jw_aload_n (pc' := 3) rfl rfl ?_
  refine jw_iload_n (pc' := 4) rfl rfl ?_
  obtain ⟨g_1, w⟩ := w
  refine jw_cLH (st := [vI (0 : Int32), vR 70 r2]) (sa := [vR 1 r0, vI x1]) okX1_word rfl rfl rfl rfl rfl (jstp_virtual (sa := [vI x1]) (st := [vI (0 : Int32), vR 70 r2]) (k := 0) rfl rfl sX1_word okX1_word g_1 (one1.k g_1) rfl rfl) w (fun v_3 h_2 _ _ w => ?_) (fun x_8 h_9 _ _ w => ?_)
  · obtain ⟨g_4, w⟩ := w
    obtain ⟨g_5, w⟩ := w
    refine jw_last' (pc' := 8) rfl rfl rfl rfl rfl g_4 g_5 (fun h_6 e_7 => ?_)
    replace w := w h_6 e_7
    refine jw_goto (pc' := 14) rfl rfl ?_
    refine jw_iconst (pc' := 15) (x := (0 : Int32)) rfl rfl ?_
    exact jw_ireturn rfl rfl (rfl) w
  · obtain ⟨e_10, w⟩ := w
    refine ⟨11, by rw [e_10]; rfl, by rw [e_10]; rfl, ?_⟩
    rw [e_10]
    refine jw_astore_n (pc' := 12) (ls' := [some (vR 1 r0), some (vI x1), some (vR 70 r2), some (vR 39 x_8)]) rfl (by decide) rfl ?_
    refine jw_iconst (pc' := 13) (x := (1 : Int32)) rfl rfl ?_
    exact jw_ireturn rfl rfl (rfl) w
def T_X0_word (D : JD) (d : Nat) (Q : JO → JH → Prop) (r0 : Nat) (x1 : Int32) (r2 : Nat) (h : JH) : Prop := W_X0_word_0 D d Q r0 x1 r2 h
theorem t_X0_word {D : JD} {d : Nat} {Q : JO → JH → Prop} {r0 : Nat} {x1 : Int32} {r2 : Nat} {h : JH} (w : T_X0_word D d Q r0 x1 r2 h) : cX0_word D (d + 1) r0 x1 r2 h Q := by
  unfold T_X0_word at w
  unfold cX0_word
  exact w_X0_word_0 w
def W_X0_count_0 (D : JD) (d : Nat) (Q : JO → JH → Prop) (r0 : Nat) (x1 : Int32) (r2 : Nat) (h : JH) : Prop :=
  r0 ≠ 0 ∧ (cX1_count D d r0 x1 h (pI D h (fun v_4 h_2 => r2 ≠ 0 ∧ jin (0 : Int32) (jln h_2 r2) ∧ ∀ h_7 : JH, h_7 = wal h_2 r2 (ixn (0 : Int32)) (Int32.toInt64 v_4) → (Q (.inl (some (vI (0 : Int32)))) h_7)) (fun x_9 h_10 => (jkd h_10 x_9 = 13 ∧ Q (.inl (some (vI (1 : Int32)))) h_10))))
theorem w_X0_count_0 {D : JD} {d : Nat} {Q : JO → JH → Prop} {r0 : Nat} {x1 : Int32} {r2 : Nat} {h : JH} (w : W_X0_count_0 D d Q r0 x1 r2 h) : JW D (d + 1) mX0_count 0 [some (vR 1 r0), some (vI x1), some (vR 70 r2), none] [] h Q := by
  unfold W_X0_count_0 at w
  refine jw_aload_n (pc' := 1) rfl rfl ?_
  refine jw_iconst (pc' := 2) (x := (0 : Int32)) rfl rfl ?_
  refine jw_aload_n (pc' := 3) rfl rfl ?_
  refine jw_iload_n (pc' := 4) rfl rfl ?_
  obtain ⟨g_1, w⟩ := w
  refine jw_cIH (st := [vI (0 : Int32), vR 70 r2]) (sa := [vR 1 r0, vI x1]) okX1_count rfl rfl rfl rfl rfl (jstp_virtual (sa := [vI x1]) (st := [vI (0 : Int32), vR 70 r2]) (k := 0) rfl rfl sX1_count okX1_count g_1 (one1.k g_1) rfl rfl) w (fun v_4 h_2 _ _ w => ?_) (fun x_9 h_10 _ _ w => ?_)
  · refine jw_i2l (pc' := 8) rfl ?_
    obtain ⟨g_5, w⟩ := w
    obtain ⟨g_6, w⟩ := w
    refine jw_last' (pc' := 9) rfl rfl rfl rfl rfl g_5 g_6 (fun h_7 e_8 => ?_)
    replace w := w h_7 e_8
    refine jw_goto (pc' := 15) rfl rfl ?_
    refine jw_iconst (pc' := 16) (x := (0 : Int32)) rfl rfl ?_
    exact jw_ireturn rfl rfl (rfl) w
  · obtain ⟨e_11, w⟩ := w
    refine ⟨12, by rw [e_11]; rfl, by rw [e_11]; rfl, ?_⟩
    rw [e_11]
    refine jw_astore_n (pc' := 13) (ls' := [some (vR 1 r0), some (vI x1), some (vR 70 r2), some (vR 13 x_9)]) rfl (by decide) rfl ?_
    refine jw_iconst (pc' := 14) (x := (1 : Int32)) rfl rfl ?_
    exact jw_ireturn rfl rfl (rfl) w
def T_X0_count (D : JD) (d : Nat) (Q : JO → JH → Prop) (r0 : Nat) (x1 : Int32) (r2 : Nat) (h : JH) : Prop := W_X0_count_0 D d Q r0 x1 r2 h
theorem t_X0_count {D : JD} {d : Nat} {Q : JO → JH → Prop} {r0 : Nat} {x1 : Int32} {r2 : Nat} {h : JH} (w : T_X0_count D d Q r0 x1 r2 h) : cX0_count D (d + 1) r0 x1 r2 h Q := by
  unfold T_X0_count at w
  unfold cX0_count
  exact w_X0_count_0 w
def W_X1_init_0 (D : JD) (d : Nat) (Q : JO → JH → Prop) (r0 : Nat) (h : JH) : Prop :=
  r0 ≠ 0 ∧ (∀ (r_2 : Nat) (h_3 : JH), r_2 = jsz h + 1 → h_3 = nwa h 122 2000 → (∀ h_6 : JH, h_6 = wfr h_3 0 r0 r_2 → (∀ (r_8 : Nat) (h_9 : JH), r_8 = jsz h_6 + 1 → h_9 = nwa h_6 123 8192 → (∀ h_12 : JH, h_12 = wfr h_9 2 r0 r_8 → (∀ (r_14 : Nat) (h_15 : JH), r_14 = jsz h_12 + 1 → h_15 = nwo h_12 112 3 → (cX2_init D d r_14 (4096 : Int32) h_15 (pV D h_15 (fun h_18 => ∀ h_21 : JH, h_21 = wfr h_18 4 r0 r_14 → (∀ h_23 : JH, h_23 = wfi h_21 5 r0 (0 : Int32) → (∀ h_25 : JH, h_25 = wfr h_23 6 r0 (jcs D 0) → (∀ (r_27 : Nat) (h_28 : JH), r_27 = jsz h_25 + 1 → h_28 = nwo h_25 3 20 → (cX3_init D d r_27 h_28 (pV D h_28 (fun h_31 => ∀ h_34 : JH, h_34 = wfr h_31 7 r0 r_27 → (∀ (r_36 : Nat) (h_37 : JH), r_36 = jsz h_34 + 1 → h_37 = nwa h_34 124 10 → (∀ h_40 : JH, h_40 = wfr h_37 8 r0 r_36 → (∀ (r_42 : Nat) (h_43 : JH), r_42 = jsz h_40 + 1 → h_43 = nwa h_40 125 4 → (∀ h_46 : JH, h_46 = wfr h_43 10 r0 r_42 → (∀ (r_48 : Nat) (h_49 : JH), r_48 = jsz h_46 + 1 → h_49 = nwa h_46 126 4 → (∀ h_52 : JH, h_52 = wfr h_49 15 r0 r_48 → (Q (.inl none) h_52)))))))) (jth Q))))))) (jth Q))))))))
theorem w_X1_init_0 {D : JD} {d : Nat} {Q : JO → JH → Prop} {r0 : Nat} {h : JH} (w : W_X1_init_0 D d Q r0 h) : JW D (d + 1) mX1_init 0 [some (vR 1 r0)] [] h Q := by
  unfold W_X1_init_0 at w
  refine jw_aload_n (pc' := 1) rfl rfl ?_
  obtain ⟨g_1, w⟩ := w
  refine jw_obj (pc' := 4) rfl (lw_g (jtb_mem (c := 1) (i := 80) rfl) rfl) rfl g_1 ?_
  refine jw_aload_n (pc' := 5) rfl rfl ?_
  refine jw_sipush (pc' := 8) (x := (2000 : Int32)) rfl rfl ?_
  refine jw_newa' (pc' := 10) (n := 2000) (k := 122) rfl rfl rfl rfl rfl rfl (lw_g (jtb_mem (c := 1) (i := 105) rfl) rfl) ⟨by decide, rfl⟩ (by decide) (fun r_2 h_3 e_4 e_5 => ?_)
  replace w := w r_2 h_3 e_4 e_5
  refine jw_putR' (pc' := 13) (F := 0) rfl rfl rfl (Or.inr rfl) (Or.inr ⟨rfl, rfl⟩) rfl rfl rfl g_1 (fun h_6 e_7 => ?_)
  replace w := w h_6 e_7
  refine jw_aload_n (pc' := 14) rfl rfl ?_
  refine jw_sipush (pc' := 17) (x := (8192 : Int32)) rfl rfl ?_
  refine jw_newa' (pc' := 19) (n := 8192) (k := 123) rfl rfl rfl rfl rfl rfl (lw_g (jtb_mem (c := 1) (i := 105) rfl) rfl) ⟨by decide, rfl⟩ (by decide) (fun r_8 h_9 e_10 e_11 => ?_)
  replace w := w r_8 h_9 e_10 e_11
  refine jw_putR' (pc' := 22) (F := 2) rfl rfl rfl (Or.inr rfl) (Or.inr ⟨rfl, rfl⟩) rfl rfl rfl g_1 (fun h_12 e_13 => ?_)
  replace w := w h_12 e_13
  refine jw_aload_n (pc' := 23) rfl rfl ?_
  refine jw_new' (pc' := 26) (k := 112) (n := 3) rfl rfl rfl rfl rfl rfl rfl (fun r_14 h_15 e_16 e_17 => ?_)
  replace w := w r_14 h_15 e_16 e_17
  refine jw_dup (pc' := 27) rfl rfl ?_
  refine jw_sipush (pc' := 30) (x := (4096 : Int32)) rfl rfl ?_
  refine jw_cV (st := [vR 112 r_14, vR 1 r0]) (sa := [vR 112 r_14, vI (4096 : Int32)]) okX2_init rfl rfl rfl rfl rfl rfl (jstp_init (sa := [vI (4096 : Int32)]) (st := [vR 112 r_14, vR 1 r0]) rfl rfl sX2_init okX2_init (lw_g (jtb_mem (c := 1) (i := 87) rfl) rfl) (jnz e_16) rfl rfl) w (fun h_18 _ _ w => ?_)
  refine jw_putR' (pc' := 36) (F := 4) rfl rfl rfl (Or.inr rfl) (Or.inr ⟨rfl, rfl⟩) rfl rfl rfl g_1 (fun h_21 e_22 => ?_)
  replace w := w h_21 e_22
  refine jw_aload_n (pc' := 37) rfl rfl ?_
  refine jw_iconst (pc' := 38) (x := (0 : Int32)) rfl rfl ?_
  refine jw_putI' (pc' := 41) (F := 5) rfl rfl rfl (Or.inr rfl) (Or.inl rfl) rfl (rfl) (rfl) rfl g_1 (fun h_23 e_24 => ?_)
  replace w := w h_23 e_24
  refine jw_aload_n (pc' := 42) rfl rfl ?_
  refine jw_ldcS (pc' := 44) rfl rfl rfl rfl ?_
  refine jw_putR' (pc' := 47) (F := 6) rfl rfl rfl (Or.inr rfl) (Or.inl rfl) rfl rfl rfl g_1 (fun h_25 e_26 => ?_)
  replace w := w h_25 e_26
  refine jw_aload_n (pc' := 48) rfl rfl ?_
  refine jw_new' (pc' := 51) (k := 3) (n := 20) rfl rfl rfl rfl rfl rfl rfl (fun r_27 h_28 e_29 e_30 => ?_)
  replace w := w r_27 h_28 e_29 e_30
  refine jw_dup (pc' := 52) rfl rfl ?_
  refine jw_cV (st := [vR 3 r_27, vR 1 r0]) (sa := [vR 3 r_27]) okX3_init rfl rfl rfl rfl rfl rfl (jstp_init (sa := []) (st := [vR 3 r_27, vR 1 r0]) rfl rfl sX3_init okX3_init (lw_g (jtb_mem (c := 1) (i := 111) rfl) rfl) (jnz e_29) rfl rfl) w (fun h_31 _ _ w => ?_)
  refine jw_putR' (pc' := 58) (F := 7) rfl rfl rfl (Or.inr rfl) (Or.inr ⟨rfl, rfl⟩) rfl rfl rfl g_1 (fun h_34 e_35 => ?_)
  replace w := w h_34 e_35
  refine jw_aload_n (pc' := 59) rfl rfl ?_
  refine jw_bipush (pc' := 61) (x := (10 : Int32)) rfl rfl ?_
  refine jw_anew' (pc' := 64) (n := 10) (k := 124) rfl rfl rfl rfl rfl rfl rfl (jtb_mem (c := 2) (i := 121) rfl) ⟨by decide, rfl⟩ rfl (fun r_36 h_37 e_38 e_39 => ?_)
  replace w := w r_36 h_37 e_38 e_39
  refine jw_putR' (pc' := 67) (F := 8) rfl rfl rfl (Or.inr rfl) (Or.inr ⟨rfl, rfl⟩) rfl rfl rfl g_1 (fun h_40 e_41 => ?_)
  replace w := w h_40 e_41
  refine jw_aload_n (pc' := 68) rfl rfl ?_
  refine jw_iconst (pc' := 69) (x := (4 : Int32)) rfl rfl ?_
  refine jw_anew' (pc' := 72) (n := 4) (k := 125) rfl rfl rfl rfl rfl rfl rfl (jtb_mem (c := 2) (i := 123) rfl) ⟨by decide, rfl⟩ rfl (fun r_42 h_43 e_44 e_45 => ?_)
  replace w := w r_42 h_43 e_44 e_45
  refine jw_putR' (pc' := 75) (F := 10) rfl rfl rfl (Or.inr rfl) (Or.inr ⟨rfl, rfl⟩) rfl rfl rfl g_1 (fun h_46 e_47 => ?_)
  replace w := w h_46 e_47
  refine jw_aload_n (pc' := 76) rfl rfl ?_
  refine jw_iconst (pc' := 77) (x := (4 : Int32)) rfl rfl ?_
  refine jw_anew' (pc' := 80) (n := 4) (k := 126) rfl rfl rfl rfl rfl rfl rfl (jtb_mem (c := 2) (i := 125) rfl) ⟨by decide, rfl⟩ rfl (fun r_48 h_49 e_50 e_51 => ?_)
  replace w := w r_48 h_49 e_50 e_51
  refine jw_putR' (pc' := 83) (F := 15) rfl rfl rfl (Or.inr rfl) (Or.inr ⟨rfl, rfl⟩) rfl rfl rfl g_1 (fun h_52 e_53 => ?_)
  replace w := w h_52 e_53
  exact jw_return rfl rfl w
def T_X1_init (D : JD) (d : Nat) (Q : JO → JH → Prop) (r0 : Nat) (h : JH) : Prop := W_X1_init_0 D d Q r0 h
theorem t_X1_init {D : JD} {d : Nat} {Q : JO → JH → Prop} {r0 : Nat} {h : JH} (w : T_X1_init D d Q r0 h) : cX1_init D (d + 1) r0 h Q := by
  unfold T_X1_init at w
  unfold cX1_init
  exact w_X1_init_0 w
def W_X1_step_92 (D : JD) (d : Nat) (Q : JO → JH → Prop) (r0 : Nat) (h : JH) : Prop :=
  r0 ≠ 0 ∧ (cX1_close D d r0 h (pV D h (fun h_2 => Q (.inl (some (vI (-2 : Int32)))) h_2) (jth Q)))
theorem w_X1_step_92 {D : JD} {d : Nat} {Q : JO → JH → Prop} {r0 : Nat} {h : JH} (w : W_X1_step_92 D d Q r0 h) : JW D (d + 1) mX1_step 92 [some (vR 1 r0), none, none, none, none] [] h Q := by
  unfold W_X1_step_92 at w
  refine jw_aload_n (pc' := 93) rfl rfl ?_
  obtain ⟨g_1, w⟩ := w
  refine jw_cV (st := []) (sa := [vR 1 r0]) okX1_close rfl rfl rfl rfl rfl rfl (jstp_virtual (sa := []) (st := []) (k := 0) rfl rfl sX1_close okX1_close g_1 (one1.k g_1) rfl rfl) w (fun h_2 _ _ w => ?_)
  refine jw_bipush (pc' := 98) (x := (-2 : Int32)) rfl rfl ?_
  exact jw_ireturn rfl rfl (rfl) w
def W_X1_step_207 (D : JD) (d : Nat) (Q : JO → JH → Prop) (x4 : Int32) (h : JH) : Prop :=
  Q (.inl (some (vI x4))) h
theorem w_X1_step_207 {D : JD} {d : Nat} {Q : JO → JH → Prop} {x4 : Int32} {h : JH} (w : W_X1_step_207 D d Q x4 h) : JW D (d + 1) mX1_step 207 [none, none, none, none, some (vI x4)] [] h Q := by
  unfold W_X1_step_207 at w
  refine jw_iload (pc' := 209) rfl rfl ?_
  exact jw_ireturn rfl rfl (rfl) w
def W_X1_step_191 (D : JD) (d : Nat) (Q : JO → JH → Prop) (r0 : Nat) (x4 : Int32) (h : JH) : Prop :=
  r0 ≠ 0 ∧ (((jfi h 5 r0) = (5 : Int32) → W_X1_step_207 D d Q x4 h) ∧ (¬ (jfi h 5 r0) = (5 : Int32) → cX1_gone D d r0 (jfi h 14 r0) h (pV D h (fun h_3 => W_X1_step_207 D d Q x4 h_3) (jth Q))))
theorem w_X1_step_191 {D : JD} {d : Nat} {Q : JO → JH → Prop} {r0 : Nat} {x4 : Int32} {h : JH} (w : W_X1_step_191 D d Q r0 x4 h) : JW D (d + 1) mX1_step 191 [some (vR 1 r0), none, none, none, some (vI x4)] [] h Q := by
  unfold W_X1_step_191 at w
  refine jw_aload_n (pc' := 192) rfl rfl ?_
  obtain ⟨g_1, w⟩ := w
  refine jw_getI (pc' := 195) (F := 5) rfl rfl rfl rfl g_1 ?_
  refine jw_iconst (pc' := 196) (x := (5 : Int32)) rfl rfl ?_
  refine jw_icmp_eq (tgt := 207) (pc' := 199) rfl rfl (fun c_2 => ?_) (fun c_2 => ?_)
  · replace w := w.1 c_2
    refine jw_gen (ls' := [none, none, none, none, some (vI x4)]) (st' := []) (And.intro (Or.inl rfl) (trivial)) (trivial) ?_
    exact w_X1_step_207 w
  · replace w := w.2 c_2
    refine jw_aload_n (pc' := 200) rfl rfl ?_
    refine jw_aload_n (pc' := 201) rfl rfl ?_
    refine jw_getI (pc' := 204) (F := 14) rfl rfl rfl rfl g_1 ?_
    refine jw_cV (st := []) (sa := [vR 1 r0, vI (jfi h 14 r0)]) okX1_gone rfl rfl rfl rfl rfl rfl (jstp_virtual (sa := [vI (jfi h 14 r0)]) (st := []) (k := 0) rfl rfl sX1_gone okX1_gone g_1 (one1.k g_1) rfl rfl) w (fun h_3 _ _ w => ?_)
    refine jw_gen (ls' := [none, none, none, none, some (vI x4)]) (st' := []) (And.intro (Or.inl rfl) (trivial)) (trivial) ?_
    exact w_X1_step_207 w
def W_X1_step_132 (D : JD) (d : Nat) (Q : JO → JH → Prop) (r0 : Nat) (x1 : Int32) (y2 : Int64) (s0 : Int32) (h : JH) : Prop :=
  r0 ≠ 0 ∧ ∀ h_2 : JH, h_2 = wfi h 13 r0 (x1 + (4 : Int32)) → (∀ h_4 : JH, h_4 = wfi h_2 14 r0 (x1 + (Int64.toInt32 y2)) → ((jfr h_4 7 r0) ≠ 0 ∧ ∀ h_7 : JH, h_7 = wfi h_4 35 (jfr h_4 7 r0) (0 : Int32) → ((¬ x1 = 0 → (¬ (jfi h_7 5 r0) = (1 : Int32) → cX1_message D d r0 s0 h_7 (pV D h_7 (fun h_11 => W_X1_step_191 D d Q r0 s0 h_11) (jth Q))) ∧ ((jfi h_7 5 r0) = (1 : Int32) → cX1_password D d r0 s0 h_7 (pV D h_7 (fun h_14 => W_X1_step_191 D d Q r0 s0 h_14) (jth Q)))) ∧ (x1 = 0 → cX1_startup D d r0 h_7 (pV D h_7 (fun h_17 => W_X1_step_191 D d Q r0 s0 h_17) (jth Q))))))
theorem w_X1_step_132 {D : JD} {d : Nat} {Q : JO → JH → Prop} {r0 : Nat} {x1 : Int32} {y2 : Int64} {s0 : Int32} {h : JH} (w : W_X1_step_132 D d Q r0 x1 y2 s0 h) : JW D (d + 1) mX1_step 132 [some (vR 1 r0), some (vI x1), some (vL y2), none, none] [vI s0] h Q := by
  unfold W_X1_step_132 at w
  refine jw_istore (pc' := 134) (ls' := [some (vR 1 r0), some (vI x1), some (vL y2), none, some (vI s0)]) rfl (by decide) rfl ?_
  refine jw_aload_n (pc' := 135) rfl rfl ?_
  refine jw_iload_n (pc' := 136) rfl rfl ?_
  refine jw_iconst (pc' := 137) (x := (4 : Int32)) rfl rfl ?_
  refine jw_iadd (pc' := 138) rfl ?_
  obtain ⟨g_1, w⟩ := w
  refine jw_putI' (pc' := 141) (F := 13) rfl rfl rfl (Or.inr rfl) (Or.inl rfl) rfl (rfl) (rfl) rfl g_1 (fun h_2 e_3 => ?_)
  replace w := w h_2 e_3
  refine jw_aload_n (pc' := 142) rfl rfl ?_
  refine jw_iload_n (pc' := 143) rfl rfl ?_
  refine jw_lload_n (pc' := 144) rfl rfl ?_
  refine jw_l2i (pc' := 145) rfl ?_
  refine jw_iadd (pc' := 146) rfl ?_
  refine jw_putI' (pc' := 149) (F := 14) rfl rfl rfl (Or.inr rfl) (Or.inl rfl) rfl (rfl) (rfl) rfl g_1 (fun h_4 e_5 => ?_)
  replace w := w h_4 e_5
  refine jw_aload_n (pc' := 150) rfl rfl ?_
  refine jw_getR (pc' := 153) (F := 7) (t' := 3) rfl rfl rfl rfl rfl g_1 ?_
  refine jw_iconst (pc' := 154) (x := (0 : Int32)) rfl rfl ?_
  obtain ⟨g_6, w⟩ := w
  refine jw_putI' (pc' := 157) (F := 35) rfl rfl rfl (Or.inr rfl) (Or.inl rfl) rfl (rfl) (rfl) rfl g_6 (fun h_7 e_8 => ?_)
  replace w := w h_7 e_8
  refine jw_iload_n (pc' := 158) rfl rfl ?_
  refine jw_if_ne (tgt := 168) (pc' := 161) rfl rfl (fun c_9 => ?_) (fun c_9 => ?_)
  · replace w := w.1 c_9
    refine jw_aload_n (pc' := 169) rfl rfl ?_
    refine jw_getI (pc' := 172) (F := 5) rfl rfl rfl rfl g_1 ?_
    refine jw_iconst (pc' := 173) (x := (1 : Int32)) rfl rfl ?_
    refine jw_icmp_ne (tgt := 185) (pc' := 176) rfl rfl (fun c_10 => ?_) (fun c_10 => ?_)
    · replace w := w.1 c_10
      refine jw_aload_n (pc' := 186) rfl rfl ?_
      refine jw_iload (pc' := 188) rfl rfl ?_
      refine jw_cV (st := []) (sa := [vR 1 r0, vI s0]) okX1_message rfl rfl rfl rfl rfl rfl (jstp_virtual (sa := [vI s0]) (st := []) (k := 0) rfl rfl sX1_message okX1_message g_1 (one1.k g_1) rfl rfl) w (fun h_11 _ _ w => ?_)
      refine jw_gen (ls' := [some (vR 1 r0), none, none, none, some (vI s0)]) (st' := []) (And.intro (Or.inl rfl) (And.intro (Or.inl rfl) (trivial))) (trivial) ?_
      exact w_X1_step_191 w
    · replace w := w.2 c_10
      refine jw_aload_n (pc' := 177) rfl rfl ?_
      refine jw_iload (pc' := 179) rfl rfl ?_
      refine jw_cV (st := []) (sa := [vR 1 r0, vI s0]) okX1_password rfl rfl rfl rfl rfl rfl (jstp_virtual (sa := [vI s0]) (st := []) (k := 0) rfl rfl sX1_password okX1_password g_1 (one1.k g_1) rfl rfl) w (fun h_14 _ _ w => ?_)
      refine jw_goto (pc' := 191) rfl rfl ?_
      refine jw_gen (ls' := [some (vR 1 r0), none, none, none, some (vI s0)]) (st' := []) (And.intro (Or.inl rfl) (And.intro (Or.inl rfl) (trivial))) (trivial) ?_
      exact w_X1_step_191 w
  · replace w := w.2 c_9
    refine jw_aload_n (pc' := 162) rfl rfl ?_
    refine jw_cV (st := []) (sa := [vR 1 r0]) okX1_startup rfl rfl rfl rfl rfl rfl (jstp_virtual (sa := []) (st := []) (k := 0) rfl rfl sX1_startup okX1_startup g_1 (one1.k g_1) rfl rfl) w (fun h_17 _ _ w => ?_)
    refine jw_goto (pc' := 191) rfl rfl ?_
    refine jw_gen (ls' := [some (vR 1 r0), none, none, none, some (vI s0)]) (st' := []) (And.intro (Or.inl rfl) (And.intro (Or.inl rfl) (trivial))) (trivial) ?_
    exact w_X1_step_191 w
def W_X1_step_99 (D : JD) (d : Nat) (Q : JO → JH → Prop) (r0 : Nat) (x1 : Int32) (y2 : Int64) (h : JH) : Prop :=
  r0 ≠ 0 ∧ ((0 ≤ (lg_cmp (Int32.toInt64 (jfi h 3 r0)) ((Int32.toInt64 x1) + y2)) → (¬ x1 = 0 → (jfr h 2 r0) ≠ 0 ∧ jin (0 : Int32) (jln h (jfr h 2 r0)) ∧ (W_X1_step_132 D d Q r0 x1 y2 ((jai h (jfr h 2 r0) (ixn (0 : Int32))) &&& (255 : Int32)) h)) ∧ (x1 = 0 → W_X1_step_132 D d Q r0 x1 y2 (0 : Int32) h)) ∧ (¬ 0 ≤ (lg_cmp (Int32.toInt64 (jfi h 3 r0)) ((Int32.toInt64 x1) + y2)) → Q (.inl (some (vI (-1 : Int32)))) h))
theorem w_X1_step_99 {D : JD} {d : Nat} {Q : JO → JH → Prop} {r0 : Nat} {x1 : Int32} {y2 : Int64} {h : JH} (w : W_X1_step_99 D d Q r0 x1 y2 h) : JW D (d + 1) mX1_step 99 [some (vR 1 r0), some (vI x1), some (vL y2), none, none] [] h Q := by
  unfold W_X1_step_99 at w
  refine jw_aload_n (pc' := 100) rfl rfl ?_
  obtain ⟨g_1, w⟩ := w
  refine jw_getI (pc' := 103) (F := 3) rfl rfl rfl rfl g_1 ?_
  refine jw_i2l (pc' := 104) rfl ?_
  refine jw_iload_n (pc' := 105) rfl rfl ?_
  refine jw_i2l (pc' := 106) rfl ?_
  refine jw_lload_n (pc' := 107) rfl rfl ?_
  refine jw_ladd (pc' := 108) rfl ?_
  refine jw_lcmp (pc' := 109) rfl ?_
  refine jw_if_ge (tgt := 114) (pc' := 112) rfl rfl (fun c_2 => ?_) (fun c_2 => ?_)
  · replace w := w.1 c_2
    refine jw_iload_n (pc' := 115) rfl rfl ?_
    refine jw_if_ne (tgt := 122) (pc' := 118) rfl rfl (fun c_3 => ?_) (fun c_3 => ?_)
    · replace w := w.1 c_3
      refine jw_aload_n (pc' := 123) rfl rfl ?_
      refine jw_getR (pc' := 126) (F := 2) (t' := 123) rfl rfl rfl rfl rfl g_1 ?_
      refine jw_iconst (pc' := 127) (x := (0 : Int32)) rfl rfl ?_
      obtain ⟨g_4, w⟩ := w
      obtain ⟨g_5, w⟩ := w
      refine jw_bald (pc' := 128) rfl rfl rfl rfl g_4 g_5.ix g_5.2 ?_
      refine jw_sipush (pc' := 131) (x := (255 : Int32)) rfl rfl ?_
      refine jw_iand (pc' := 132) rfl ?_
      exact w_X1_step_132 w
    · replace w := w.2 c_3
      refine jw_iconst (pc' := 119) (x := (0 : Int32)) rfl rfl ?_
      refine jw_goto (pc' := 132) rfl rfl ?_
      exact w_X1_step_132 w
  · replace w := w.2 c_2
    refine jw_iconst (pc' := 113) (x := (-1 : Int32)) rfl rfl ?_
    exact jw_ireturn rfl rfl (rfl) w
def W_X1_step_30 (D : JD) (d : Nat) (Q : JO → JH → Prop) (r0 : Nat) (s0 : Int32) (h : JH) : Prop :=
  r0 ≠ 0 ∧ (((s0 + (4 : Int32)) ≤ (jfi h 3 r0) → cX1_peek D d r0 s0 (4 : Int32) h (pL D h (fun v_4 h_3 => (¬ (jfi h_3 5 r0) = 0 → ((lg_cmp v_4 (4 : Int64)) < 0 → W_X1_step_92 D d Q r0 h_3) ∧ (¬ (lg_cmp v_4 (4 : Int64)) < 0 → ((lg_cmp v_4 (4000 : Int64)) ≤ 0 → W_X1_step_99 D d Q r0 s0 v_4 h_3) ∧ (¬ (lg_cmp v_4 (4000 : Int64)) ≤ 0 → W_X1_step_92 D d Q r0 h_3))) ∧ ((jfi h_3 5 r0) = 0 → ((lg_cmp v_4 (8 : Int64)) < 0 → W_X1_step_92 D d Q r0 h_3) ∧ (¬ (lg_cmp v_4 (8 : Int64)) < 0 → ((lg_cmp v_4 (1000 : Int64)) ≤ 0 → W_X1_step_99 D d Q r0 s0 v_4 h_3) ∧ (¬ (lg_cmp v_4 (1000 : Int64)) ≤ 0 → W_X1_step_92 D d Q r0 h_3)))) (jth Q))) ∧ (¬ (s0 + (4 : Int32)) ≤ (jfi h 3 r0) → Q (.inl (some (vI (-1 : Int32)))) h))
theorem w_X1_step_30 {D : JD} {d : Nat} {Q : JO → JH → Prop} {r0 : Nat} {s0 : Int32} {h : JH} (w : W_X1_step_30 D d Q r0 s0 h) : JW D (d + 1) mX1_step 30 [some (vR 1 r0), none, none, none, none] [vI s0] h Q := by
  unfold W_X1_step_30 at w
  refine jw_istore_n (pc' := 31) (ls' := [some (vR 1 r0), some (vI s0), none, none, none]) rfl (by decide) rfl ?_
  refine jw_aload_n (pc' := 32) rfl rfl ?_
  obtain ⟨g_1, w⟩ := w
  refine jw_getI (pc' := 35) (F := 3) rfl rfl rfl rfl g_1 ?_
  refine jw_iload_n (pc' := 36) rfl rfl ?_
  refine jw_iconst (pc' := 37) (x := (4 : Int32)) rfl rfl ?_
  refine jw_iadd (pc' := 38) rfl ?_
  refine jw_icmp_ge (tgt := 43) (pc' := 41) rfl rfl (fun c_2 => ?_) (fun c_2 => ?_)
  · replace w := w.1 c_2
    refine jw_aload_n (pc' := 44) rfl rfl ?_
    refine jw_iload_n (pc' := 45) rfl rfl ?_
    refine jw_iconst (pc' := 46) (x := (4 : Int32)) rfl rfl ?_
    refine jw_cL (st := []) (sa := [vR 1 r0, vI s0, vI (4 : Int32)]) okX1_peek rfl rfl rfl rfl rfl rfl (jstp_virtual (sa := [vI s0, vI (4 : Int32)]) (st := []) (k := 0) rfl rfl sX1_peek okX1_peek g_1 (one1.k g_1) rfl rfl) w (fun v_4 h_3 _ _ w => ?_)
    refine jw_lstore_n (pc' := 50) (ls' := [some (vR 1 r0), some (vI s0), some (vL v_4), none, none]) rfl (by decide) rfl ?_
    refine jw_aload_n (pc' := 51) rfl rfl ?_
    refine jw_getI (pc' := 54) (F := 5) rfl rfl rfl rfl g_1 ?_
    refine jw_if_ne (tgt := 76) (pc' := 57) rfl rfl (fun c_5 => ?_) (fun c_5 => ?_)
    · replace w := w.1 c_5
      refine jw_lload_n (pc' := 77) rfl rfl ?_
      refine jw_ldc2 (pc' := 80) (v := (4 : Int64)) rfl rfl ?_
      refine jw_lcmp (pc' := 81) rfl ?_
      refine jw_if_lt (tgt := 92) (pc' := 84) rfl rfl (fun c_6 => ?_) (fun c_6 => ?_)
      · replace w := w.1 c_6
        refine jw_gen (ls' := [some (vR 1 r0), none, none, none, none]) (st' := []) (And.intro (Or.inl rfl) (trivial)) (trivial) ?_
        exact w_X1_step_92 w
      · replace w := w.2 c_6
        refine jw_lload_n (pc' := 85) rfl rfl ?_
        refine jw_ldc2 (pc' := 88) (v := (4000 : Int64)) rfl rfl ?_
        refine jw_lcmp (pc' := 89) rfl ?_
        refine jw_if_le (tgt := 99) (pc' := 92) rfl rfl (fun c_7 => ?_) (fun c_7 => ?_)
        · replace w := w.1 c_7
          exact w_X1_step_99 w
        · replace w := w.2 c_7
          refine jw_gen (ls' := [some (vR 1 r0), none, none, none, none]) (st' := []) (And.intro (Or.inl rfl) (trivial)) (trivial) ?_
          exact w_X1_step_92 w
    · replace w := w.2 c_5
      refine jw_lload_n (pc' := 58) rfl rfl ?_
      refine jw_ldc2 (pc' := 61) (v := (8 : Int64)) rfl rfl ?_
      refine jw_lcmp (pc' := 62) rfl ?_
      refine jw_if_lt (tgt := 92) (pc' := 65) rfl rfl (fun c_8 => ?_) (fun c_8 => ?_)
      · replace w := w.1 c_8
        refine jw_gen (ls' := [some (vR 1 r0), none, none, none, none]) (st' := []) (And.intro (Or.inl rfl) (trivial)) (trivial) ?_
        exact w_X1_step_92 w
      · replace w := w.2 c_8
        refine jw_lload_n (pc' := 66) rfl rfl ?_
        refine jw_ldc2 (pc' := 69) (v := (1000 : Int64)) rfl rfl ?_
        refine jw_lcmp (pc' := 70) rfl ?_
        refine jw_if_le (tgt := 99) (pc' := 73) rfl rfl (fun c_9 => ?_) (fun c_9 => ?_)
        · replace w := w.1 c_9
          exact w_X1_step_99 w
        · replace w := w.2 c_9
          refine jw_goto (pc' := 92) rfl rfl ?_
          refine jw_gen (ls' := [some (vR 1 r0), none, none, none, none]) (st' := []) (And.intro (Or.inl rfl) (trivial)) (trivial) ?_
          exact w_X1_step_92 w
  · replace w := w.2 c_2
    refine jw_iconst (pc' := 42) (x := (-1 : Int32)) rfl rfl ?_
    exact jw_ireturn rfl rfl (rfl) w
def W_X1_step_0 (D : JD) (d : Nat) (Q : JO → JH → Prop) (r0 : Nat) (h : JH) : Prop :=
  r0 ≠ 0 ∧ ((jfr h 4 r0) ≠ 0 ∧ (cX2_clear D d (jfr h 4 r0) h (pV D h (fun h_3 => (¬ (jfi h_3 5 r0) = (5 : Int32) → (¬ (jfi h_3 5 r0) = 0 → W_X1_step_30 D d Q r0 (1 : Int32) h_3) ∧ ((jfi h_3 5 r0) = 0 → W_X1_step_30 D d Q r0 (0 : Int32) h_3)) ∧ ((jfi h_3 5 r0) = (5 : Int32) → Q (.inl (some (vI (-2 : Int32)))) h_3)) (jth Q))))
theorem w_X1_step_0 {D : JD} {d : Nat} {Q : JO → JH → Prop} {r0 : Nat} {h : JH} (w : W_X1_step_0 D d Q r0 h) : JW D (d + 1) mX1_step 0 [some (vR 1 r0), none, none, none, none] [] h Q := by
  unfold W_X1_step_0 at w
  refine jw_aload_n (pc' := 1) rfl rfl ?_
  obtain ⟨g_1, w⟩ := w
  refine jw_getR (pc' := 4) (F := 4) (t' := 112) rfl rfl rfl rfl rfl g_1 ?_
  obtain ⟨g_2, w⟩ := w
  refine jw_cV (st := []) (sa := [vR 112 (jfr h 4 r0)]) okX2_clear rfl rfl rfl rfl rfl rfl (jstp_virtual (sa := []) (st := []) (k := 0) rfl rfl sX2_clear okX2_clear g_2 (one112.k g_2) rfl rfl) w (fun h_3 _ _ w => ?_)
  refine jw_aload_n (pc' := 8) rfl rfl ?_
  refine jw_getI (pc' := 11) (F := 5) rfl rfl rfl rfl g_1 ?_
  refine jw_iconst (pc' := 12) (x := (5 : Int32)) rfl rfl ?_
  refine jw_icmp_ne (tgt := 18) (pc' := 15) rfl rfl (fun c_6 => ?_) (fun c_6 => ?_)
  · replace w := w.1 c_6
    refine jw_aload_n (pc' := 19) rfl rfl ?_
    refine jw_getI (pc' := 22) (F := 5) rfl rfl rfl rfl g_1 ?_
    refine jw_if_ne (tgt := 29) (pc' := 25) rfl rfl (fun c_7 => ?_) (fun c_7 => ?_)
    · replace w := w.1 c_7
      refine jw_iconst (pc' := 30) (x := (1 : Int32)) rfl rfl ?_
      exact w_X1_step_30 w
    · replace w := w.2 c_7
      refine jw_iconst (pc' := 26) (x := (0 : Int32)) rfl rfl ?_
      refine jw_goto (pc' := 30) rfl rfl ?_
      exact w_X1_step_30 w
  · replace w := w.2 c_6
    refine jw_bipush (pc' := 17) (x := (-2 : Int32)) rfl rfl ?_
    exact jw_ireturn rfl rfl (rfl) w
def T_X1_step (D : JD) (d : Nat) (Q : JO → JH → Prop) (r0 : Nat) (h : JH) : Prop := W_X1_step_0 D d Q r0 h
theorem t_X1_step {D : JD} {d : Nat} {Q : JO → JH → Prop} {r0 : Nat} {h : JH} (w : T_X1_step D d Q r0 h) : cX1_step D (d + 1) r0 h Q := by
  unfold T_X1_step at w
  unfold cX1_step
  exact w_X1_step_0 w
def W_X1_peek_67 (D : JD) (d : Nat) (Q : JO → JH → Prop) (y3 : Int64) (h : JH) : Prop :=
  Q (.inl (some (vL y3))) h
theorem w_X1_peek_67 {D : JD} {d : Nat} {Q : JO → JH → Prop} {y3 : Int64} {h : JH} (w : W_X1_peek_67 D d Q y3 h) : JW D (d + 1) mX1_peek 67 [none, none, none, some (vL y3), none, none] [] h Q := by
  unfold W_X1_peek_67 at w
  refine jw_lload_n (pc' := 68) rfl rfl ?_
  exact jw_lreturn rfl rfl w
def W_X1_peek_25 (D : JD) (d : Nat) (Q : JO → JH → Prop) (K25 : Nat → Int32 → Int32 → Int64 → Int32 → JH → Prop) (r0 : Nat) (x1 : Int32) (x2 : Int32) (y3 : Int64) (x5 : Int32) (h : JH) : Prop :=
  (x2 ≤ x5 → W_X1_peek_67 D d Q y3 h) ∧ (¬ x2 ≤ x5 → r0 ≠ 0 ∧ ((((jfi h 3 r0) - x2) < x1 → W_X1_peek_67 D d Q y3 h) ∧ (¬ ((jfi h 3 r0) - x2) < x1 → (jfr h 2 r0) ≠ 0 ∧ jin (x1 + x5) (jln h (jfr h 2 r0)) ∧ (K25 r0 x1 x2 ((y3 <<< (Int32.toInt64 (8 : Int32) &&& 63)) ||| (Int32.toInt64 ((jai h (jfr h 2 r0) (ixn (x1 + x5))) &&& (255 : Int32)))) (x5 + (1 : Int32)) h))))
theorem w_X1_peek_25 {D : JD} {d : Nat} {Q : JO → JH → Prop} {K25 : Nat → Int32 → Int32 → Int64 → Int32 → JH → Prop} {r0 : Nat} {x1 : Int32} {x2 : Int32} {y3 : Int64} {x5 : Int32} {h : JH} (hK25 : ∀ (r0 : Nat) (x1 : Int32) (x2 : Int32) (y3 : Int64) (x5 : Int32) (h : JH), K25 r0 x1 x2 y3 x5 h → JW D (d + 1) mX1_peek 25 [some (vR 1 r0), some (vI x1), some (vI x2), some (vL y3), none, some (vI x5)] [] h Q) (w : W_X1_peek_25 D d Q K25 r0 x1 x2 y3 x5 h) : JW D (d + 1) mX1_peek 25 [some (vR 1 r0), some (vI x1), some (vI x2), some (vL y3), none, some (vI x5)] [] h Q := by
  unfold W_X1_peek_25 at w
  refine jw_iload (pc' := 27) rfl rfl ?_
  refine jw_iload_n (pc' := 28) rfl rfl ?_
  refine jw_icmp_ge (tgt := 67) (pc' := 31) rfl rfl (fun c_1 => ?_) (fun c_1 => ?_)
  · replace w := w.1 c_1
    refine jw_gen (ls' := [none, none, none, some (vL y3), none, none]) (st' := []) (And.intro (Or.inl rfl) (trivial)) (trivial) ?_
    exact w_X1_peek_67 w
  · replace w := w.2 c_1
    refine jw_iload_n (pc' := 32) rfl rfl ?_
    refine jw_aload_n (pc' := 33) rfl rfl ?_
    obtain ⟨g_2, w⟩ := w
    refine jw_getI (pc' := 36) (F := 3) rfl rfl rfl rfl g_2 ?_
    refine jw_iload_n (pc' := 37) rfl rfl ?_
    refine jw_isub (pc' := 38) rfl ?_
    refine jw_icmp_gt (tgt := 67) (pc' := 41) rfl rfl (fun c_3 => ?_) (fun c_3 => ?_)
    · replace w := w.1 c_3
      refine jw_gen (ls' := [none, none, none, some (vL y3), none, none]) (st' := []) (And.intro (Or.inl rfl) (trivial)) (trivial) ?_
      exact w_X1_peek_67 w
    · replace w := w.2 c_3
      refine jw_lload_n (pc' := 42) rfl rfl ?_
      refine jw_bipush (pc' := 44) (x := (8 : Int32)) rfl rfl ?_
      refine jw_lshl (pc' := 45) rfl ?_
      refine jw_aload_n (pc' := 46) rfl rfl ?_
      refine jw_getR (pc' := 49) (F := 2) (t' := 123) rfl rfl rfl rfl rfl g_2 ?_
      refine jw_iload_n (pc' := 50) rfl rfl ?_
      refine jw_iload (pc' := 52) rfl rfl ?_
      refine jw_iadd (pc' := 53) rfl ?_
      obtain ⟨g_4, w⟩ := w
      obtain ⟨g_5, w⟩ := w
      refine jw_bald (pc' := 54) rfl rfl rfl rfl g_4 g_5.ix g_5.2 ?_
      refine jw_sipush (pc' := 57) (x := (255 : Int32)) rfl rfl ?_
      refine jw_iand (pc' := 58) rfl ?_
      refine jw_i2l (pc' := 59) rfl ?_
      refine jw_lor (pc' := 60) rfl ?_
      refine jw_lstore_n (pc' := 61) (ls' := [some (vR 1 r0), some (vI x1), some (vI x2), some (vL ((y3 <<< (Int32.toInt64 (8 : Int32) &&& 63)) ||| (Int32.toInt64 ((jai h (jfr h 2 r0) (ixn (x1 + x5))) &&& (255 : Int32))))), none, some (vI x5)]) rfl (by decide) rfl ?_
      refine jw_iinc (pc' := 64) (y := x5 + (1 : Int32)) (ls' := [some (vR 1 r0), some (vI x1), some (vI x2), some (vL ((y3 <<< (Int32.toInt64 (8 : Int32) &&& 63)) ||| (Int32.toInt64 ((jai h (jfr h 2 r0) (ixn (x1 + x5))) &&& (255 : Int32))))), none, some (vI (x5 + (1 : Int32)))]) rfl (by decide) rfl rfl rfl ?_
      refine jw_goto (pc' := 25) rfl rfl ?_
      exact hK25 _ _ _ _ _ _ w
def L_X1_peek_25 (D : JD) (d : Nat) (Q : JO → JH → Prop) : Nat → Nat → Int32 → Int32 → Int64 → Int32 → JH → Prop
  | 0 => fun _ _ _ _ _ _ => False
  | n + 1 => fun r0 x1 x2 y3 x5 h => W_X1_peek_25 D d Q (L_X1_peek_25 D d Q n) r0 x1 x2 y3 x5 h
theorem l_X1_peek_25 {D : JD} {d : Nat} {Q : JO → JH → Prop} : ∀ (n : Nat) (r0 : Nat) (x1 : Int32) (x2 : Int32) (y3 : Int64) (x5 : Int32) (h : JH), L_X1_peek_25 D d Q n r0 x1 x2 y3 x5 h → JW D (d + 1) mX1_peek 25 [some (vR 1 r0), some (vI x1), some (vI x2), some (vL y3), none, some (vI x5)] [] h Q := by
  intro n
  induction n with
  | zero => intro _ _ _ _ _ _ w; exact w.elim
  | succ n ih => intro _ _ _ _ _ h w; exact w_X1_peek_25 ih w
def W_X1_peek_21 (D : JD) (d : Nat) (Q : JO → JH → Prop) (r0 : Nat) (x1 : Int32) (x2 : Int32) (t0 : Int64) (h : JH) : Prop :=
  ∃ n, L_X1_peek_25 D d Q n r0 x1 x2 t0 (1 : Int32) h
theorem w_X1_peek_21 {D : JD} {d : Nat} {Q : JO → JH → Prop} {r0 : Nat} {x1 : Int32} {x2 : Int32} {t0 : Int64} {h : JH} (w : W_X1_peek_21 D d Q r0 x1 x2 t0 h) : JW D (d + 1) mX1_peek 21 [some (vR 1 r0), some (vI x1), some (vI x2), none, none, none] [vL t0] h Q := by
  unfold W_X1_peek_21 at w
  refine jw_lstore_n (pc' := 22) (ls' := [some (vR 1 r0), some (vI x1), some (vI x2), some (vL t0), none, none]) rfl (by decide) rfl ?_
  refine jw_iconst (pc' := 23) (x := (1 : Int32)) rfl rfl ?_
  refine jw_istore (pc' := 25) (ls' := [some (vR 1 r0), some (vI x1), some (vI x2), some (vL t0), none, some (vI (1 : Int32))]) rfl (by decide) rfl ?_
  obtain ⟨n, w⟩ := w
  exact l_X1_peek_25 n _ _ _ _ _ _ w
def W_X1_peek_0 (D : JD) (d : Nat) (Q : JO → JH → Prop) (r0 : Nat) (x1 : Int32) (x2 : Int32) (h : JH) : Prop :=
  r0 ≠ 0 ∧ ((x1 ≤ ((jfi h 3 r0) - x2) → (jfr h 2 r0) ≠ 0 ∧ jin x1 (jln h (jfr h 2 r0)) ∧ (W_X1_peek_21 D d Q r0 x1 x2 (Int32.toInt64 (jai h (jfr h 2 r0) (ixn x1))) h)) ∧ (¬ x1 ≤ ((jfi h 3 r0) - x2) → W_X1_peek_21 D d Q r0 x1 x2 (0 : Int64) h))
theorem w_X1_peek_0 {D : JD} {d : Nat} {Q : JO → JH → Prop} {r0 : Nat} {x1 : Int32} {x2 : Int32} {h : JH} (w : W_X1_peek_0 D d Q r0 x1 x2 h) : JW D (d + 1) mX1_peek 0 [some (vR 1 r0), some (vI x1), some (vI x2), none, none, none] [] h Q := by
  unfold W_X1_peek_0 at w
  refine jw_iload_n (pc' := 1) rfl rfl ?_
  refine jw_aload_n (pc' := 2) rfl rfl ?_
  obtain ⟨g_1, w⟩ := w
  refine jw_getI (pc' := 5) (F := 3) rfl rfl rfl rfl g_1 ?_
  refine jw_iload_n (pc' := 6) rfl rfl ?_
  refine jw_isub (pc' := 7) rfl ?_
  refine jw_icmp_le (tgt := 14) (pc' := 10) rfl rfl (fun c_2 => ?_) (fun c_2 => ?_)
  · replace w := w.1 c_2
    refine jw_aload_n (pc' := 15) rfl rfl ?_
    refine jw_getR (pc' := 18) (F := 2) (t' := 123) rfl rfl rfl rfl rfl g_1 ?_
    refine jw_iload_n (pc' := 19) rfl rfl ?_
    obtain ⟨g_3, w⟩ := w
    obtain ⟨g_4, w⟩ := w
    refine jw_bald (pc' := 20) rfl rfl rfl rfl g_3 g_4.ix g_4.2 ?_
    refine jw_i2l (pc' := 21) rfl ?_
    exact w_X1_peek_21 w
  · replace w := w.2 c_2
    refine jw_lconst (pc' := 11) (x := (0 : Int64)) rfl rfl ?_
    refine jw_goto (pc' := 21) rfl rfl ?_
    exact w_X1_peek_21 w
def T_X1_peek (D : JD) (d : Nat) (Q : JO → JH → Prop) (r0 : Nat) (x1 : Int32) (x2 : Int32) (h : JH) : Prop := W_X1_peek_0 D d Q r0 x1 x2 h
theorem t_X1_peek {D : JD} {d : Nat} {Q : JO → JH → Prop} {r0 : Nat} {x1 : Int32} {x2 : Int32} {h : JH} (w : T_X1_peek D d Q r0 x1 x2 h) : cX1_peek D (d + 1) r0 x1 x2 h Q := by
  unfold T_X1_peek at w
  unfold cX1_peek
  exact w_X1_peek_0 w
def W_X1_close_0 (D : JD) (d : Nat) (Q : JO → JH → Prop) (r0 : Nat) (h : JH) : Prop :=
  r0 ≠ 0 ∧ ∀ h_2 : JH, h_2 = wfi h 5 r0 (5 : Int32) → (∀ h_4 : JH, h_4 = wfi h_2 3 r0 (0 : Int32) → ((jfr h_4 7 r0) ≠ 0 ∧ ∀ h_7 : JH, h_7 = wfi h_4 36 (jfr h_4 7 r0) (0 : Int32) → ((jfr h_7 7 r0) ≠ 0 ∧ ∀ h_10 : JH, h_10 = wfi h_7 37 (jfr h_7 7 r0) (0 : Int32) → ((jfr h_10 7 r0) ≠ 0 ∧ (cX3_back D d (jfr h_10 7 r0) h_10 (pV D h_10 (fun h_13 => ∀ h_16 : JH, h_16 = wfi h_13 9 r0 (0 : Int32) → (∀ h_18 : JH, h_18 = wfi h_16 12 r0 (0 : Int32) → (cX1_dropPortals D d r0 h_18 (pV D h_18 (fun h_20 => Q (.inl none) h_20) (jth Q))))) (jth Q)))))))
theorem w_X1_close_0 {D : JD} {d : Nat} {Q : JO → JH → Prop} {r0 : Nat} {h : JH} (w : W_X1_close_0 D d Q r0 h) : JW D (d + 1) mX1_close 0 [some (vR 1 r0)] [] h Q := by
  unfold W_X1_close_0 at w
  refine jw_aload_n (pc' := 1) rfl rfl ?_
  refine jw_iconst (pc' := 2) (x := (5 : Int32)) rfl rfl ?_
  obtain ⟨g_1, w⟩ := w
  refine jw_putI' (pc' := 5) (F := 5) rfl rfl rfl (Or.inr rfl) (Or.inl rfl) rfl (rfl) (rfl) rfl g_1 (fun h_2 e_3 => ?_)
  replace w := w h_2 e_3
  refine jw_aload_n (pc' := 6) rfl rfl ?_
  refine jw_iconst (pc' := 7) (x := (0 : Int32)) rfl rfl ?_
  refine jw_putI' (pc' := 10) (F := 3) rfl rfl rfl (Or.inr rfl) (Or.inl rfl) rfl (rfl) (rfl) rfl g_1 (fun h_4 e_5 => ?_)
  replace w := w h_4 e_5
  refine jw_aload_n (pc' := 11) rfl rfl ?_
  refine jw_getR (pc' := 14) (F := 7) (t' := 3) rfl rfl rfl rfl rfl g_1 ?_
  refine jw_iconst (pc' := 15) (x := (0 : Int32)) rfl rfl ?_
  obtain ⟨g_6, w⟩ := w
  refine jw_putI' (pc' := 18) (F := 36) rfl rfl rfl (Or.inr rfl) (Or.inl rfl) rfl (rfl) (rfl) rfl g_6 (fun h_7 e_8 => ?_)
  replace w := w h_7 e_8
  refine jw_aload_n (pc' := 19) rfl rfl ?_
  refine jw_getR (pc' := 22) (F := 7) (t' := 3) rfl rfl rfl rfl rfl g_1 ?_
  refine jw_iconst (pc' := 23) (x := (0 : Int32)) rfl rfl ?_
  obtain ⟨g_9, w⟩ := w
  refine jw_putI' (pc' := 26) (F := 37) rfl rfl rfl (Or.inr rfl) (Or.inl rfl) rfl (rfl) (rfl) rfl g_9 (fun h_10 e_11 => ?_)
  replace w := w h_10 e_11
  refine jw_aload_n (pc' := 27) rfl rfl ?_
  refine jw_getR (pc' := 30) (F := 7) (t' := 3) rfl rfl rfl rfl rfl g_1 ?_
  obtain ⟨g_12, w⟩ := w
  refine jw_cV (st := []) (sa := [vR 3 (jfr h_10 7 r0)]) okX3_back rfl rfl rfl rfl rfl rfl (jstp_virtual (sa := []) (st := []) (k := 0) rfl rfl sX3_back okX3_back g_12 (one3.k g_12) rfl rfl) w (fun h_13 _ _ w => ?_)
  refine jw_aload_n (pc' := 34) rfl rfl ?_
  refine jw_iconst (pc' := 35) (x := (0 : Int32)) rfl rfl ?_
  refine jw_putI' (pc' := 38) (F := 9) rfl rfl rfl (Or.inr rfl) (Or.inl rfl) rfl (rfl) (rfl) rfl g_1 (fun h_16 e_17 => ?_)
  replace w := w h_16 e_17
  refine jw_aload_n (pc' := 39) rfl rfl ?_
  refine jw_iconst (pc' := 40) (x := (0 : Int32)) rfl rfl ?_
  refine jw_putI' (pc' := 43) (F := 12) rfl rfl rfl (Or.inr rfl) (Or.inl rfl) rfl (rfl) (rfl) rfl g_1 (fun h_18 e_19 => ?_)
  replace w := w h_18 e_19
  refine jw_aload_n (pc' := 44) rfl rfl ?_
  refine jw_cV (st := []) (sa := [vR 1 r0]) okX1_dropPortals rfl rfl rfl rfl rfl rfl (jstp_virtual (sa := []) (st := []) (k := 0) rfl rfl sX1_dropPortals okX1_dropPortals g_1 (one1.k g_1) rfl rfl) w (fun h_20 _ _ w => ?_)
  exact jw_return rfl rfl w
def T_X1_close (D : JD) (d : Nat) (Q : JO → JH → Prop) (r0 : Nat) (h : JH) : Prop := W_X1_close_0 D d Q r0 h
theorem t_X1_close {D : JD} {d : Nat} {Q : JO → JH → Prop} {r0 : Nat} {h : JH} (w : T_X1_close D d Q r0 h) : cX1_close D (d + 1) r0 h Q := by
  unfold T_X1_close at w
  unfold cX1_close
  exact w_X1_close_0 w
def W_X1_fault_0 (D : JD) (d : Nat) (Q : JO → JH → Prop) (r0 : Nat) (h : JH) : Prop :=
  ∀ (r_1 : Nat) (h_2 : JH), r_1 = jsz h + 1 → h_2 = nwo h 9 8 → (cX16_init D d r_1 r0 (-1 : Int32) h_2 (pV D h_2 (fun h_5 => Q (.inl (some (vR 9 r_1))) h_5) (jth Q)))
theorem w_X1_fault_0 {D : JD} {d : Nat} {Q : JO → JH → Prop} {r0 : Nat} {h : JH} (w : W_X1_fault_0 D d Q r0 h) : JW D (d + 1) mX1_fault 0 [some (vR 64 r0)] [] h Q := by
  unfold W_X1_fault_0 at w
  refine jw_new' (pc' := 3) (k := 9) (n := 8) rfl rfl rfl rfl rfl rfl rfl (fun r_1 h_2 e_3 e_4 => ?_)
  replace w := w r_1 h_2 e_3 e_4
  refine jw_dup (pc' := 4) rfl rfl ?_
  refine jw_aload_n (pc' := 5) rfl rfl ?_
  refine jw_iconst (pc' := 6) (x := (-1 : Int32)) rfl rfl ?_
  refine jw_cV (st := [vR 9 r_1]) (sa := [vR 9 r_1, vR 64 r0, vI (-1 : Int32)]) okX16_init rfl rfl rfl rfl rfl rfl (jstp_init (sa := [vR 64 r0, vI (-1 : Int32)]) (st := [vR 9 r_1]) rfl rfl sX16_init okX16_init (lw_g (jtb_mem (c := 3) (i := 64) rfl) rfl) (jnz e_3) rfl rfl) w (fun h_5 _ _ w => ?_)
  exact jw_areturn rfl rfl rfl rfl rfl w
def T_X1_fault (D : JD) (d : Nat) (Q : JO → JH → Prop) (r0 : Nat) (h : JH) : Prop := W_X1_fault_0 D d Q r0 h
theorem t_X1_fault {D : JD} {d : Nat} {Q : JO → JH → Prop} {r0 : Nat} {h : JH} (w : T_X1_fault D d Q r0 h) : cX1_fault D (d + 1) r0 h Q := by
  unfold T_X1_fault at w
  unfold cX1_fault
  exact w_X1_fault_0 w
def W_X1_dropPortals_2 (D : JD) (d : Nat) (Q : JO → JH → Prop) (K2 : Nat → Int32 → JH → Prop) (r0 : Nat) (x1 : Int32) (h : JH) : Prop :=
  r0 ≠ 0 ∧ (((jfi h 11 r0) ≤ x1 → ∀ h_3 : JH, h_3 = wfi h 11 r0 (0 : Int32) → (Q (.inl none) h_3)) ∧ (¬ (jfi h 11 r0) ≤ x1 → (jfr h 10 r0) ≠ 0 ∧ jin x1 (jln h (jfr h 10 r0)) ∧ (cX1_free D d r0 (jar h (jfr h 10 r0) (ixn x1)) h (pV D h (fun h_7 => K2 r0 (x1 + (1 : Int32)) h_7) (jth Q)))))
theorem w_X1_dropPortals_2 {D : JD} {d : Nat} {Q : JO → JH → Prop} {K2 : Nat → Int32 → JH → Prop} {r0 : Nat} {x1 : Int32} {h : JH} (hK2 : ∀ (r0 : Nat) (x1 : Int32) (h : JH), K2 r0 x1 h → JW D (d + 1) mX1_dropPortals 2 [some (vR 1 r0), some (vI x1)] [] h Q) (w : W_X1_dropPortals_2 D d Q K2 r0 x1 h) : JW D (d + 1) mX1_dropPortals 2 [some (vR 1 r0), some (vI x1)] [] h Q := by
  unfold W_X1_dropPortals_2 at w
  refine jw_iload_n (pc' := 3) rfl rfl ?_
  refine jw_aload_n (pc' := 4) rfl rfl ?_
  obtain ⟨g_1, w⟩ := w
  refine jw_getI (pc' := 7) (F := 11) rfl rfl rfl rfl g_1 ?_
  refine jw_icmp_ge (tgt := 26) (pc' := 10) rfl rfl (fun c_2 => ?_) (fun c_2 => ?_)
  · replace w := w.1 c_2
    refine jw_aload_n (pc' := 27) rfl rfl ?_
    refine jw_iconst (pc' := 28) (x := (0 : Int32)) rfl rfl ?_
    refine jw_putI' (pc' := 31) (F := 11) rfl rfl rfl (Or.inr rfl) (Or.inl rfl) rfl (rfl) (rfl) rfl g_1 (fun h_3 e_4 => ?_)
    replace w := w h_3 e_4
    exact jw_return rfl rfl w
  · replace w := w.2 c_2
    refine jw_aload_n (pc' := 11) rfl rfl ?_
    refine jw_aload_n (pc' := 12) rfl rfl ?_
    refine jw_getR (pc' := 15) (F := 10) (t' := 125) rfl rfl rfl rfl rfl g_1 ?_
    refine jw_iload_n (pc' := 16) rfl rfl ?_
    obtain ⟨g_5, w⟩ := w
    obtain ⟨g_6, w⟩ := w
    refine jw_aald (pc' := 17) (t' := 37) rfl rfl rfl rfl g_5 g_6.ix g_6.2 ?_
    refine jw_cV (st := []) (sa := [vR 1 r0, vR 37 (jar h (jfr h 10 r0) (ixn x1))]) okX1_free rfl rfl rfl rfl rfl rfl (jstp_virtual (sa := [vR 37 (jar h (jfr h 10 r0) (ixn x1))]) (st := []) (k := 0) rfl rfl sX1_free okX1_free g_1 (one1.k g_1) rfl rfl) w (fun h_7 _ _ w => ?_)
    refine jw_iinc (pc' := 23) (y := x1 + (1 : Int32)) (ls' := [some (vR 1 r0), some (vI (x1 + (1 : Int32)))]) rfl (by decide) rfl rfl rfl ?_
    refine jw_goto (pc' := 2) rfl rfl ?_
    exact hK2 _ _ _ w
def L_X1_dropPortals_2 (D : JD) (d : Nat) (Q : JO → JH → Prop) : Nat → Nat → Int32 → JH → Prop
  | 0 => fun _ _ _ => False
  | n + 1 => fun r0 x1 h => W_X1_dropPortals_2 D d Q (L_X1_dropPortals_2 D d Q n) r0 x1 h
theorem l_X1_dropPortals_2 {D : JD} {d : Nat} {Q : JO → JH → Prop} : ∀ (n : Nat) (r0 : Nat) (x1 : Int32) (h : JH), L_X1_dropPortals_2 D d Q n r0 x1 h → JW D (d + 1) mX1_dropPortals 2 [some (vR 1 r0), some (vI x1)] [] h Q := by
  intro n
  induction n with
  | zero => intro _ _ _ w; exact w.elim
  | succ n ih => intro _ _ h w; exact w_X1_dropPortals_2 ih w
def W_X1_dropPortals_0 (D : JD) (d : Nat) (Q : JO → JH → Prop) (r0 : Nat) (h : JH) : Prop :=
  ∃ n, L_X1_dropPortals_2 D d Q n r0 (0 : Int32) h
theorem w_X1_dropPortals_0 {D : JD} {d : Nat} {Q : JO → JH → Prop} {r0 : Nat} {h : JH} (w : W_X1_dropPortals_0 D d Q r0 h) : JW D (d + 1) mX1_dropPortals 0 [some (vR 1 r0), none] [] h Q := by
  unfold W_X1_dropPortals_0 at w
  refine jw_iconst (pc' := 1) (x := (0 : Int32)) rfl rfl ?_
  refine jw_istore_n (pc' := 2) (ls' := [some (vR 1 r0), some (vI (0 : Int32))]) rfl (by decide) rfl ?_
  obtain ⟨n, w⟩ := w
  exact l_X1_dropPortals_2 n _ _ _ w
def T_X1_dropPortals (D : JD) (d : Nat) (Q : JO → JH → Prop) (r0 : Nat) (h : JH) : Prop := W_X1_dropPortals_0 D d Q r0 h
theorem t_X1_dropPortals {D : JD} {d : Nat} {Q : JO → JH → Prop} {r0 : Nat} {h : JH} (w : T_X1_dropPortals D d Q r0 h) : cX1_dropPortals D (d + 1) r0 h Q := by
  unfold T_X1_dropPortals at w
  unfold cX1_dropPortals
  exact w_X1_dropPortals_0 w
def W_X1_free_0 (D : JD) (d : Nat) (Q : JO → JH → Prop) (r0 : Nat) (r1 : Nat) (h : JH) : Prop :=
  r1 ≠ 0 ∧ (((jfr h 172 r1) ≠ 0 → r0 ≠ 0 ∧ ((jfr h 15 r0) ≠ 0 ∧ jin (jfi h 16 r0) (jln h (jfr h 15 r0)) ∧ ∀ h_6 : JH, h_6 = war h (jfr h 15 r0) (ixn (jfi h 16 r0)) (jfr h 172 r1) → (∀ h_8 : JH, h_8 = wfi h_6 16 r0 ((jfi h_6 16 r0) + (1 : Int32)) → (∀ h_10 : JH, h_10 = wfr h_8 172 r1 0 → (Q (.inl none) h_10))))) ∧ ((jfr h 172 r1) = 0 → Q (.inl none) h))
theorem w_X1_free_0 {D : JD} {d : Nat} {Q : JO → JH → Prop} {r0 : Nat} {r1 : Nat} {h : JH} (w : W_X1_free_0 D d Q r0 r1 h) : JW D (d + 1) mX1_free 0 [some (vR 1 r0), some (vR 37 r1)] [] h Q := by
  unfold W_X1_free_0 at w
  refine jw_aload_n (pc' := 1) rfl rfl ?_
  obtain ⟨g_1, w⟩ := w
  refine jw_getR (pc' := 4) (F := 172) (t' := 7) rfl rfl rfl rfl rfl g_1 ?_
  refine jw_ifnonnull (tgt := 8) (pc' := 7) rfl rfl (fun c_2 => ?_) (fun c_2 => ?_)
  · replace w := w.1 c_2
    refine jw_aload_n (pc' := 9) rfl rfl ?_
    obtain ⟨g_3, w⟩ := w
    refine jw_getR (pc' := 12) (F := 15) (t' := 126) rfl rfl rfl rfl rfl g_3 ?_
    refine jw_aload_n (pc' := 13) rfl rfl ?_
    refine jw_getI (pc' := 16) (F := 16) rfl rfl rfl rfl g_3 ?_
    refine jw_aload_n (pc' := 17) rfl rfl ?_
    refine jw_getR (pc' := 20) (F := 172) (t' := 7) rfl rfl rfl rfl rfl g_1 ?_
    obtain ⟨g_4, w⟩ := w
    obtain ⟨g_5, w⟩ := w
    refine jw_aast' (pc' := 21) rfl rfl rfl rfl rfl rfl g_4 g_5 (fun h_6 e_7 => ?_)
    replace w := w h_6 e_7
    refine jw_aload_n (pc' := 22) rfl rfl ?_
    refine jw_dup (pc' := 23) rfl rfl ?_
    refine jw_getI (pc' := 26) (F := 16) rfl rfl rfl rfl g_3 ?_
    refine jw_iconst (pc' := 27) (x := (1 : Int32)) rfl rfl ?_
    refine jw_iadd (pc' := 28) rfl ?_
    refine jw_putI' (pc' := 31) (F := 16) rfl rfl rfl (Or.inr rfl) (Or.inl rfl) rfl (rfl) (rfl) rfl g_3 (fun h_8 e_9 => ?_)
    replace w := w h_8 e_9
    refine jw_aload_n (pc' := 32) rfl rfl ?_
    refine jw_null (pc' := 33) (t := 7) rfl ?_
    refine jw_putR' (pc' := 36) (F := 172) rfl rfl rfl (Or.inr rfl) (Or.inl rfl) rfl rfl rfl g_1 (fun h_10 e_11 => ?_)
    replace w := w h_10 e_11
    exact jw_return rfl rfl w
  · replace w := w.2 c_2
    exact jw_return rfl rfl w
def T_X1_free (D : JD) (d : Nat) (Q : JO → JH → Prop) (r0 : Nat) (r1 : Nat) (h : JH) : Prop := W_X1_free_0 D d Q r0 r1 h
theorem t_X1_free {D : JD} {d : Nat} {Q : JO → JH → Prop} {r0 : Nat} {r1 : Nat} {h : JH} (w : T_X1_free D d Q r0 r1 h) : cX1_free D (d + 1) r0 r1 h Q := by
  unfold T_X1_free at w
  unfold cX1_free
  exact w_X1_free_0 w
def W_X1_startup_88 (D : JD) (d : Nat) (Q : JO → JH → Prop) (K52 : Nat → JH → Prop) (r0 : Nat) (h : JH) : Prop :=
  K52 r0 h
theorem w_X1_startup_88 {D : JD} {d : Nat} {Q : JO → JH → Prop} {K52 : Nat → JH → Prop} {r0 : Nat} {h : JH} (hK52 : ∀ (r0 : Nat) (h : JH), K52 r0 h → JW D (d + 1) mX1_startup 52 [some (vR 1 r0), none, none, none, none] [] h Q) (w : W_X1_startup_88 D d Q K52 r0 h) : JW D (d + 1) mX1_startup 88 [some (vR 1 r0), none, none, none, none] [] h Q := by
  unfold W_X1_startup_88 at w
  refine jw_goto (pc' := 52) rfl rfl ?_
  exact hK52 _ _ w
def W_X1_startup_165 (D : JD) (d : Nat) (Q : JO → JH → Prop) (h : JH) : Prop :=
  Q (.inl none) h
theorem w_X1_startup_165 {D : JD} {d : Nat} {Q : JO → JH → Prop} {h : JH} (w : W_X1_startup_165 D d Q h) : JW D (d + 1) mX1_startup 165 [none, none, none, none, none] [] h Q := by
  unfold W_X1_startup_165 at w
  exact jw_return rfl rfl w
def W_X1_startup_155 (D : JD) (d : Nat) (Q : JO → JH → Prop) (r0 : Nat) (q0 : Nat) (h : JH) : Prop :=
  r0 ≠ 0 ∧ (cX1_error D d r0 q0 h (pV D h (fun h_2 => cX1_close D d r0 h_2 (pV D h_2 (fun h_5 => W_X1_startup_165 D d Q h_5) (jth Q))) (jth Q)))
theorem w_X1_startup_155 {D : JD} {d : Nat} {Q : JO → JH → Prop} {r0 : Nat} {q0 : Nat} {h : JH} (w : W_X1_startup_155 D d Q r0 q0 h) : JW D (d + 1) mX1_startup 155 [some (vR 1 r0), none, none, none, none] [vR 9 q0] h Q := by
  unfold W_X1_startup_155 at w
  refine jw_astore_n (pc' := 156) (ls' := [some (vR 1 r0), some (vR 9 q0), none, none, none]) rfl (by decide) rfl ?_
  refine jw_aload_n (pc' := 157) rfl rfl ?_
  refine jw_aload_n (pc' := 158) rfl rfl ?_
  obtain ⟨g_1, w⟩ := w
  refine jw_cV (st := []) (sa := [vR 1 r0, vR 9 q0]) okX1_error rfl rfl rfl rfl rfl rfl (jstp_virtual (sa := [vR 9 q0]) (st := []) (k := 0) rfl rfl sX1_error okX1_error g_1 (one1.k g_1) rfl rfl) w (fun h_2 _ _ w => ?_)
  refine jw_aload_n (pc' := 162) rfl rfl ?_
  refine jw_cV (st := []) (sa := [vR 1 r0]) okX1_close rfl rfl rfl rfl rfl rfl (jstp_virtual (sa := []) (st := []) (k := 0) rfl rfl sX1_close okX1_close g_1 (one1.k g_1) rfl rfl) w (fun h_5 _ _ w => ?_)
  refine jw_gen (ls' := [none, none, none, none, none]) (st' := []) (trivial) (trivial) ?_
  exact w_X1_startup_165 w
def W_X1_startup_118 (D : JD) (d : Nat) (Q : JO → JH → Prop) (r0 : Nat) (h : JH) : Prop :=
  cX1_fault D d (jcs D 5) h (pR D h 9 (fun v_3 h_1 => v_3 ≠ 0 ∧ ((jkd h_1 v_3 = 9 ∧ W_X1_startup_155 D d Q r0 v_3 h_1))) (fun x_6 h_7 => (jkd h_7 x_6 = 9 ∧ W_X1_startup_155 D d Q r0 x_6 h_7)))
theorem w_X1_startup_118 {D : JD} {d : Nat} {Q : JO → JH → Prop} {r0 : Nat} {h : JH} (w : W_X1_startup_118 D d Q r0 h) : JW D (d + 1) mX1_startup 118 [some (vR 1 r0), none, none, none, none] [] h Q := by
  unfold W_X1_startup_118 at w
  refine jw_ldcS (pc' := 120) rfl rfl rfl rfl ?_
  refine jw_cRH (st := []) (sa := [vR 51 (jcs D 5)]) okX1_fault rfl rfl rfl rfl rfl (jstp_static (sa := [vR 51 (jcs D 5)]) (st := []) rfl rfl sX1_fault okX1_fault rfl rfl) w (fun v_3 h_1 _ _ _ w => ?_) (fun x_6 h_7 _ _ w => ?_)
  · obtain ⟨g_4, w⟩ := w
    obtain ⟨e_5, w⟩ := w
    refine jw_athrowC rfl g_4 (by rw [e_5]; rfl) (by rw [e_5]; rfl) (hp := 155) ?_
    rw [e_5]
    exact w_X1_startup_155 w
  · obtain ⟨e_8, w⟩ := w
    refine ⟨155, by rw [e_8]; rfl, by rw [e_8]; rfl, ?_⟩
    rw [e_8]
    exact w_X1_startup_155 w
def W_X1_startup_52 (D : JD) (d : Nat) (Q : JO → JH → Prop) (K52 : Nat → JH → Prop) (r0 : Nat) (h : JH) : Prop :=
  r0 ≠ 0 ∧ (cX1_string D d r0 h (pR D h 64 (fun v_4 h_2 => v_4 ≠ 0 ∧ (cJ5_length D d v_4 h_2 (pI D h_2 (fun v_8 h_6 => (¬ v_8 = 0 → cX1_string D d r0 h_6 (pR D h_6 64 (fun v_12 h_10 => cJ5_equals D d v_4 (jcs D 4) h_10 (pI D h_10 (fun v_15 h_13 => (v_15 = 0 → W_X1_startup_88 D d Q K52 r0 h_13) ∧ (¬ v_15 = 0 → ∀ h_17 : JH, h_17 = wfr h_13 6 r0 v_12 → (W_X1_startup_88 D d Q K52 r0 h_17))) (fun x_19 h_20 => (jkd h_20 x_19 = 9 ∧ W_X1_startup_155 D d Q r0 x_19 h_20)))) (fun x_22 h_23 => (jkd h_23 x_22 = 9 ∧ W_X1_startup_155 D d Q r0 x_22 h_23)))) ∧ (v_8 = 0 → cX1_all D d r0 h_6 (pV D h_6 (fun h_25 => (jfr h_25 6 r0) ≠ 0 ∧ (cJ5_length D d (jfr h_25 6 r0) h_25 (pI D h_25 (fun v_31 h_29 => (v_31 < (1 : Int32) → W_X1_startup_118 D d Q r0 h_29) ∧ (¬ v_31 < (1 : Int32) → (jfr h_29 6 r0) ≠ 0 ∧ (cJ5_length D d (jfr h_29 6 r0) h_29 (pI D h_29 (fun v_36 h_34 => (v_36 ≤ (20 : Int32) → (jfr h_34 4 r0) ≠ 0 ∧ (cX2_open D d (jfr h_34 4 r0) (82 : Int32) h_34 (pR D h_34 2 (fun v_41 h_39 => v_41 ≠ 0 ∧ (cX2_number D d v_41 (3 : Int64) (4 : Int32) h_39 (pV D h_39 (fun h_43 => (jfr h_43 4 r0) ≠ 0 ∧ (cX2_close D d (jfr h_43 4 r0) h_43 (pV D h_43 (fun h_47 => ∀ h_50 : JH, h_50 = wfi h_47 5 r0 (1 : Int32) → (W_X1_startup_165 D d Q h_50)) (fun x_52 h_53 => (jkd h_53 x_52 = 9 ∧ W_X1_startup_155 D d Q r0 x_52 h_53))))) (fun x_55 h_56 => (jkd h_56 x_55 = 9 ∧ W_X1_startup_155 D d Q r0 x_55 h_56))))) (fun x_58 h_59 => (jkd h_59 x_58 = 9 ∧ W_X1_startup_155 D d Q r0 x_58 h_59))))) ∧ (¬ v_36 ≤ (20 : Int32) → W_X1_startup_118 D d Q r0 h_34)) (fun x_61 h_62 => (jkd h_62 x_61 = 9 ∧ W_X1_startup_155 D d Q r0 x_61 h_62)))))) (fun x_64 h_65 => (jkd h_65 x_64 = 9 ∧ W_X1_startup_155 D d Q r0 x_64 h_65))))) (fun x_67 h_68 => (jkd h_68 x_67 = 9 ∧ W_X1_startup_155 D d Q r0 x_67 h_68))))) (fun x_70 h_71 => (jkd h_71 x_70 = 9 ∧ W_X1_startup_155 D d Q r0 x_70 h_71))))) (fun x_73 h_74 => (jkd h_74 x_73 = 9 ∧ W_X1_startup_155 D d Q r0 x_73 h_74))))
theorem w_X1_startup_52 {D : JD} {d : Nat} {Q : JO → JH → Prop} {K52 : Nat → JH → Prop} {r0 : Nat} {h : JH} (hK52 : ∀ (r0 : Nat) (h : JH), K52 r0 h → JW D (d + 1) mX1_startup 52 [some (vR 1 r0), none, none, none, none] [] h Q) (w : W_X1_startup_52 D d Q K52 r0 h) : JW D (d + 1) mX1_startup 52 [some (vR 1 r0), none, none, none, none] [] h Q := by
  unfold W_X1_startup_52 at w
  refine jw_aload_n (pc' := 53) rfl rfl ?_
  obtain ⟨g_1, w⟩ := w
  refine jw_cRH (st := []) (sa := [vR 1 r0]) okX1_string rfl rfl rfl rfl rfl (jstp_virtual (sa := []) (st := []) (k := 0) rfl rfl sX1_string okX1_string g_1 (one1.k g_1) rfl rfl) w (fun v_4 h_2 _ _ _ w => ?_) (fun x_73 h_74 _ _ w => ?_)
  · refine jw_astore_n (pc' := 57) (ls' := [some (vR 1 r0), none, none, some (vR 64 v_4), none]) rfl (by decide) rfl ?_
    refine jw_aload_n (pc' := 58) rfl rfl ?_
    obtain ⟨g_5, w⟩ := w
    refine jw_cIH (st := []) (sa := [vR 64 v_4]) okJ5_length rfl rfl rfl rfl rfl (jstp_virtual (sa := []) (st := []) (k := 0) rfl rfl sJ5_length okJ5_length g_5 (one64.k g_5) rfl rfl) w (fun v_8 h_6 _ _ w => ?_) (fun x_70 h_71 _ _ w => ?_)
    · refine jw_if_ne (tgt := 67) (pc' := 64) rfl rfl (fun c_9 => ?_) (fun c_9 => ?_)
      · replace w := w.1 c_9
        refine jw_aload_n (pc' := 68) rfl rfl ?_
        refine jw_cRH (st := []) (sa := [vR 1 r0]) okX1_string rfl rfl rfl rfl rfl (jstp_virtual (sa := []) (st := []) (k := 0) rfl rfl sX1_string okX1_string g_1 (one1.k g_1) rfl rfl) w (fun v_12 h_10 _ _ _ w => ?_) (fun x_22 h_23 _ _ w => ?_)
        · refine jw_astore (pc' := 73) (ls' := [some (vR 1 r0), none, none, some (vR 64 v_4), some (vR 64 v_12)]) rfl (by decide) rfl ?_
          refine jw_aload_n (pc' := 74) rfl rfl ?_
          refine jw_ldcS (pc' := 76) rfl rfl rfl rfl ?_
          refine jw_cIH (st := []) (sa := [vR 64 v_4, vR 51 (jcs D 4)]) okJ5_equals rfl rfl rfl rfl rfl (jstp_virtual (sa := [vR 51 (jcs D 4)]) (st := []) (k := 0) rfl rfl sJ5_equals okJ5_equals g_5 (one64.k g_5) rfl rfl) w (fun v_15 h_13 _ _ w => ?_) (fun x_19 h_20 _ _ w => ?_)
          · refine jw_if_eq (tgt := 88) (pc' := 82) rfl rfl (fun c_16 => ?_) (fun c_16 => ?_)
            · replace w := w.1 c_16
              refine jw_gen (ls' := [some (vR 1 r0), none, none, none, none]) (st' := []) (And.intro (Or.inl rfl) (trivial)) (trivial) ?_
              exact w_X1_startup_88 hK52 w
            · replace w := w.2 c_16
              refine jw_aload_n (pc' := 83) rfl rfl ?_
              refine jw_aload (pc' := 85) rfl rfl ?_
              refine jw_putR' (pc' := 88) (F := 6) rfl rfl rfl (Or.inr rfl) (Or.inl rfl) rfl rfl rfl g_1 (fun h_17 e_18 => ?_)
              replace w := w h_17 e_18
              refine jw_gen (ls' := [some (vR 1 r0), none, none, none, none]) (st' := []) (And.intro (Or.inl rfl) (trivial)) (trivial) ?_
              exact w_X1_startup_88 hK52 w
          · obtain ⟨e_21, w⟩ := w
            refine ⟨155, by rw [e_21]; rfl, by rw [e_21]; rfl, ?_⟩
            rw [e_21]
            refine jw_gen (ls' := [some (vR 1 r0), none, none, none, none]) (st' := [vR 9 x_19]) (And.intro (Or.inl rfl) (trivial)) (And.intro (Or.inl rfl) (trivial)) ?_
            exact w_X1_startup_155 w
        · obtain ⟨e_24, w⟩ := w
          refine ⟨155, by rw [e_24]; rfl, by rw [e_24]; rfl, ?_⟩
          rw [e_24]
          refine jw_gen (ls' := [some (vR 1 r0), none, none, none, none]) (st' := [vR 9 x_22]) (And.intro (Or.inl rfl) (trivial)) (And.intro (Or.inl rfl) (trivial)) ?_
          exact w_X1_startup_155 w
      · replace w := w.2 c_9
        refine jw_goto (pc' := 91) rfl rfl ?_
        refine jw_aload_n (pc' := 92) rfl rfl ?_
        refine jw_cVH (st := []) (sa := [vR 1 r0]) okX1_all rfl rfl rfl rfl rfl (jstp_virtual (sa := []) (st := []) (k := 0) rfl rfl sX1_all okX1_all g_1 (one1.k g_1) rfl rfl) w (fun h_25 _ _ w => ?_) (fun x_67 h_68 _ _ w => ?_)
        · refine jw_aload_n (pc' := 96) rfl rfl ?_
          refine jw_getR (pc' := 99) (F := 6) (t' := 64) rfl rfl rfl rfl rfl g_1 ?_
          obtain ⟨g_28, w⟩ := w
          refine jw_cIH (st := []) (sa := [vR 64 (jfr h_25 6 r0)]) okJ5_length rfl rfl rfl rfl rfl (jstp_virtual (sa := []) (st := []) (k := 0) rfl rfl sJ5_length okJ5_length g_28 (one64.k g_28) rfl rfl) w (fun v_31 h_29 _ _ w => ?_) (fun x_64 h_65 _ _ w => ?_)
          · refine jw_iconst (pc' := 103) (x := (1 : Int32)) rfl rfl ?_
            refine jw_icmp_lt (tgt := 118) (pc' := 106) rfl rfl (fun c_32 => ?_) (fun c_32 => ?_)
            · replace w := w.1 c_32
              refine jw_gen (ls' := [some (vR 1 r0), none, none, none, none]) (st' := []) (And.intro (Or.inl rfl) (trivial)) (trivial) ?_
              exact w_X1_startup_118 w
            · replace w := w.2 c_32
              refine jw_aload_n (pc' := 107) rfl rfl ?_
              refine jw_getR (pc' := 110) (F := 6) (t' := 64) rfl rfl rfl rfl rfl g_1 ?_
              obtain ⟨g_33, w⟩ := w
              refine jw_cIH (st := []) (sa := [vR 64 (jfr h_29 6 r0)]) okJ5_length rfl rfl rfl rfl rfl (jstp_virtual (sa := []) (st := []) (k := 0) rfl rfl sJ5_length okJ5_length g_33 (one64.k g_33) rfl rfl) w (fun v_36 h_34 _ _ w => ?_) (fun x_61 h_62 _ _ w => ?_)
              · refine jw_bipush (pc' := 115) (x := (20 : Int32)) rfl rfl ?_
                refine jw_icmp_le (tgt := 124) (pc' := 118) rfl rfl (fun c_37 => ?_) (fun c_37 => ?_)
                · replace w := w.1 c_37
                  refine jw_aload_n (pc' := 125) rfl rfl ?_
                  refine jw_getR (pc' := 128) (F := 4) (t' := 112) rfl rfl rfl rfl rfl g_1 ?_
                  refine jw_bipush (pc' := 130) (x := (82 : Int32)) rfl rfl ?_
                  obtain ⟨g_38, w⟩ := w
                  refine jw_cRH (st := []) (sa := [vR 112 (jfr h_34 4 r0), vI (82 : Int32)]) okX2_open rfl rfl rfl rfl rfl (jstp_virtual (sa := [vI (82 : Int32)]) (st := []) (k := 0) rfl rfl sX2_open okX2_open g_38 (one112.k g_38) rfl rfl) w (fun v_41 h_39 _ _ _ w => ?_) (fun x_58 h_59 _ _ w => ?_)
                  · refine jw_ldc2 (pc' := 136) (v := (3 : Int64)) rfl rfl ?_
                    refine jw_iconst (pc' := 137) (x := (4 : Int32)) rfl rfl ?_
                    obtain ⟨g_42, w⟩ := w
                    refine jw_cVH (st := []) (sa := [vR 2 v_41, vL (3 : Int64), vI (4 : Int32)]) okX2_number rfl rfl rfl rfl rfl (jstp_virtual (sa := [vL (3 : Int64), vI (4 : Int32)]) (st := []) (k := 0) rfl rfl sX2_number okX2_number g_42 (one2.k g_42) rfl rfl) w (fun h_43 _ _ w => ?_) (fun x_55 h_56 _ _ w => ?_)
                    · refine jw_aload_n (pc' := 141) rfl rfl ?_
                      refine jw_getR (pc' := 144) (F := 4) (t' := 112) rfl rfl rfl rfl rfl g_1 ?_
                      obtain ⟨g_46, w⟩ := w
                      refine jw_cVH (st := []) (sa := [vR 112 (jfr h_43 4 r0)]) okX2_close rfl rfl rfl rfl rfl (jstp_virtual (sa := []) (st := []) (k := 0) rfl rfl sX2_close okX2_close g_46 (one112.k g_46) rfl rfl) w (fun h_47 _ _ w => ?_) (fun x_52 h_53 _ _ w => ?_)
                      · refine jw_aload_n (pc' := 148) rfl rfl ?_
                        refine jw_iconst (pc' := 149) (x := (1 : Int32)) rfl rfl ?_
                        refine jw_putI' (pc' := 152) (F := 5) rfl rfl rfl (Or.inr rfl) (Or.inl rfl) rfl (rfl) (rfl) rfl g_1 (fun h_50 e_51 => ?_)
                        replace w := w h_50 e_51
                        refine jw_goto (pc' := 165) rfl rfl ?_
                        refine jw_gen (ls' := [none, none, none, none, none]) (st' := []) (trivial) (trivial) ?_
                        exact w_X1_startup_165 w
                      · obtain ⟨e_54, w⟩ := w
                        refine ⟨155, by rw [e_54]; rfl, by rw [e_54]; rfl, ?_⟩
                        rw [e_54]
                        refine jw_gen (ls' := [some (vR 1 r0), none, none, none, none]) (st' := [vR 9 x_52]) (And.intro (Or.inl rfl) (trivial)) (And.intro (Or.inl rfl) (trivial)) ?_
                        exact w_X1_startup_155 w
                    · obtain ⟨e_57, w⟩ := w
                      refine ⟨155, by rw [e_57]; rfl, by rw [e_57]; rfl, ?_⟩
                      rw [e_57]
                      refine jw_gen (ls' := [some (vR 1 r0), none, none, none, none]) (st' := [vR 9 x_55]) (And.intro (Or.inl rfl) (trivial)) (And.intro (Or.inl rfl) (trivial)) ?_
                      exact w_X1_startup_155 w
                  · obtain ⟨e_60, w⟩ := w
                    refine ⟨155, by rw [e_60]; rfl, by rw [e_60]; rfl, ?_⟩
                    rw [e_60]
                    refine jw_gen (ls' := [some (vR 1 r0), none, none, none, none]) (st' := [vR 9 x_58]) (And.intro (Or.inl rfl) (trivial)) (And.intro (Or.inl rfl) (trivial)) ?_
                    exact w_X1_startup_155 w
                · replace w := w.2 c_37
                  refine jw_gen (ls' := [some (vR 1 r0), none, none, none, none]) (st' := []) (And.intro (Or.inl rfl) (trivial)) (trivial) ?_
                  exact w_X1_startup_118 w
              · obtain ⟨e_63, w⟩ := w
                refine ⟨155, by rw [e_63]; rfl, by rw [e_63]; rfl, ?_⟩
                rw [e_63]
                refine jw_gen (ls' := [some (vR 1 r0), none, none, none, none]) (st' := [vR 9 x_61]) (And.intro (Or.inl rfl) (trivial)) (And.intro (Or.inl rfl) (trivial)) ?_
                exact w_X1_startup_155 w
          · obtain ⟨e_66, w⟩ := w
            refine ⟨155, by rw [e_66]; rfl, by rw [e_66]; rfl, ?_⟩
            rw [e_66]
            refine jw_gen (ls' := [some (vR 1 r0), none, none, none, none]) (st' := [vR 9 x_64]) (And.intro (Or.inl rfl) (trivial)) (And.intro (Or.inl rfl) (trivial)) ?_
            exact w_X1_startup_155 w
        · obtain ⟨e_69, w⟩ := w
          refine ⟨155, by rw [e_69]; rfl, by rw [e_69]; rfl, ?_⟩
          rw [e_69]
          refine jw_gen (ls' := [some (vR 1 r0), none, none, none, none]) (st' := [vR 9 x_67]) (And.intro (Or.inl rfl) (trivial)) (And.intro (Or.inl rfl) (trivial)) ?_
          exact w_X1_startup_155 w
    · obtain ⟨e_72, w⟩ := w
      refine ⟨155, by rw [e_72]; rfl, by rw [e_72]; rfl, ?_⟩
      rw [e_72]
      refine jw_gen (ls' := [some (vR 1 r0), none, none, none, none]) (st' := [vR 9 x_70]) (And.intro (Or.inl rfl) (trivial)) (And.intro (Or.inl rfl) (trivial)) ?_
      exact w_X1_startup_155 w
  · obtain ⟨e_75, w⟩ := w
    refine ⟨155, by rw [e_75]; rfl, by rw [e_75]; rfl, ?_⟩
    rw [e_75]
    exact w_X1_startup_155 w
def L_X1_startup_52 (D : JD) (d : Nat) (Q : JO → JH → Prop) : Nat → Nat → JH → Prop
  | 0 => fun _ _ => False
  | n + 1 => fun r0 h => W_X1_startup_52 D d Q (L_X1_startup_52 D d Q n) r0 h
theorem l_X1_startup_52 {D : JD} {d : Nat} {Q : JO → JH → Prop} : ∀ (n : Nat) (r0 : Nat) (h : JH), L_X1_startup_52 D d Q n r0 h → JW D (d + 1) mX1_startup 52 [some (vR 1 r0), none, none, none, none] [] h Q := by
  intro n
  induction n with
  | zero => intro _ _ w; exact w.elim
  | succ n ih => intro _ h w; exact w_X1_startup_52 ih w
def W_X1_startup_33 (D : JD) (d : Nat) (Q : JO → JH → Prop) (r0 : Nat) (y1 : Int64) (h : JH) : Prop :=
  ((lg_cmp y1 (196608 : Int64)) = 0 → r0 ≠ 0 ∧ ∀ h_3 : JH, h_3 = wfr h 6 r0 (jcs D 0) → (∃ n, L_X1_startup_52 D d Q n r0 h_3)) ∧ (¬ (lg_cmp y1 (196608 : Int64)) = 0 → r0 ≠ 0 ∧ (cX1_protocol D d r0 h (pR D h 9 (fun v_8 h_6 => v_8 ≠ 0 ∧ ((jkd h_6 v_8 = 9 ∧ W_X1_startup_155 D d Q r0 v_8 h_6))) (fun x_11 h_12 => (jkd h_12 x_11 = 9 ∧ W_X1_startup_155 D d Q r0 x_11 h_12)))))
theorem w_X1_startup_33 {D : JD} {d : Nat} {Q : JO → JH → Prop} {r0 : Nat} {y1 : Int64} {h : JH} (w : W_X1_startup_33 D d Q r0 y1 h) : JW D (d + 1) mX1_startup 33 [some (vR 1 r0), some (vL y1), none, none, none] [] h Q := by
  unfold W_X1_startup_33 at w
  refine jw_lload_n (pc' := 34) rfl rfl ?_
  refine jw_ldc2 (pc' := 37) (v := (196608 : Int64)) rfl rfl ?_
  refine jw_lcmp (pc' := 38) rfl ?_
  refine jw_if_eq (tgt := 46) (pc' := 41) rfl rfl (fun c_1 => ?_) (fun c_1 => ?_)
  · replace w := w.1 c_1
    refine jw_aload_n (pc' := 47) rfl rfl ?_
    refine jw_ldcS (pc' := 49) rfl rfl rfl rfl ?_
    obtain ⟨g_2, w⟩ := w
    refine jw_putR' (pc' := 52) (F := 6) rfl rfl rfl (Or.inr rfl) (Or.inl rfl) rfl rfl rfl g_2 (fun h_3 e_4 => ?_)
    replace w := w h_3 e_4
    refine jw_gen (ls' := [some (vR 1 r0), none, none, none, none]) (st' := []) (And.intro (Or.inl rfl) (trivial)) (trivial) ?_
    obtain ⟨n, w⟩ := w
    exact l_X1_startup_52 n _ _ w
  · replace w := w.2 c_1
    refine jw_aload_n (pc' := 42) rfl rfl ?_
    obtain ⟨g_5, w⟩ := w
    refine jw_cRH (st := []) (sa := [vR 1 r0]) okX1_protocol rfl rfl rfl rfl rfl (jstp_virtual (sa := []) (st := []) (k := 0) rfl rfl sX1_protocol okX1_protocol g_5 (one1.k g_5) rfl rfl) w (fun v_8 h_6 _ _ _ w => ?_) (fun x_11 h_12 _ _ w => ?_)
    · obtain ⟨g_9, w⟩ := w
      obtain ⟨e_10, w⟩ := w
      refine jw_athrowC rfl g_9 (by rw [e_10]; rfl) (by rw [e_10]; rfl) (hp := 155) ?_
      rw [e_10]
      refine jw_gen (ls' := [some (vR 1 r0), none, none, none, none]) (st' := [vR 9 v_8]) (And.intro (Or.inl rfl) (trivial)) (And.intro (Or.inl rfl) (trivial)) ?_
      exact w_X1_startup_155 w
    · obtain ⟨e_13, w⟩ := w
      refine ⟨155, by rw [e_13]; rfl, by rw [e_13]; rfl, ?_⟩
      rw [e_13]
      refine jw_gen (ls' := [some (vR 1 r0), none, none, none, none]) (st' := [vR 9 x_11]) (And.intro (Or.inl rfl) (trivial)) (And.intro (Or.inl rfl) (trivial)) ?_
      exact w_X1_startup_155 w
def W_X1_startup_0 (D : JD) (d : Nat) (Q : JO → JH → Prop) (r0 : Nat) (h : JH) : Prop :=
  r0 ≠ 0 ∧ (cX1_number D d r0 (4 : Int32) h (pL D h (fun v_3 h_2 => (¬ (lg_cmp v_3 (80877103 : Int64)) = 0 → W_X1_startup_33 D d Q r0 v_3 h_2) ∧ ((lg_cmp v_3 (80877103 : Int64)) = 0 → (¬ (jfi h_2 14 r0) = (8 : Int32) → W_X1_startup_33 D d Q r0 v_3 h_2) ∧ ((jfi h_2 14 r0) = (8 : Int32) → (jfr h_2 4 r0) ≠ 0 ∧ (cX2_put D d (jfr h_2 4 r0) (78 : Int32) h_2 (pV D h_2 (fun h_7 => Q (.inl none) h_7) (fun x_10 h_11 => (jkd h_11 x_10 = 9 ∧ W_X1_startup_155 D d Q r0 x_10 h_11))))))) (fun x_13 h_14 => (jkd h_14 x_13 = 9 ∧ W_X1_startup_155 D d Q r0 x_13 h_14))))
theorem w_X1_startup_0 {D : JD} {d : Nat} {Q : JO → JH → Prop} {r0 : Nat} {h : JH} (w : W_X1_startup_0 D d Q r0 h) : JW D (d + 1) mX1_startup 0 [some (vR 1 r0), none, none, none, none] [] h Q := by
  unfold W_X1_startup_0 at w
  refine jw_aload_n (pc' := 1) rfl rfl ?_
  refine jw_iconst (pc' := 2) (x := (4 : Int32)) rfl rfl ?_
  obtain ⟨g_1, w⟩ := w
  refine jw_cLH (st := []) (sa := [vR 1 r0, vI (4 : Int32)]) okX1_number rfl rfl rfl rfl rfl (jstp_virtual (sa := [vI (4 : Int32)]) (st := []) (k := 0) rfl rfl sX1_number okX1_number g_1 (one1.k g_1) rfl rfl) w (fun v_3 h_2 _ _ w => ?_) (fun x_13 h_14 _ _ w => ?_)
  · refine jw_lstore_n (pc' := 6) (ls' := [some (vR 1 r0), some (vL v_3), none, none, none]) rfl (by decide) rfl ?_
    refine jw_lload_n (pc' := 7) rfl rfl ?_
    refine jw_ldc2 (pc' := 10) (v := (80877103 : Int64)) rfl rfl ?_
    refine jw_lcmp (pc' := 11) rfl ?_
    refine jw_if_ne (tgt := 33) (pc' := 14) rfl rfl (fun c_4 => ?_) (fun c_4 => ?_)
    · replace w := w.1 c_4
      exact w_X1_startup_33 w
    · replace w := w.2 c_4
      refine jw_aload_n (pc' := 15) rfl rfl ?_
      refine jw_getI (pc' := 18) (F := 14) rfl rfl rfl rfl g_1 ?_
      refine jw_bipush (pc' := 20) (x := (8 : Int32)) rfl rfl ?_
      refine jw_icmp_ne (tgt := 33) (pc' := 23) rfl rfl (fun c_5 => ?_) (fun c_5 => ?_)
      · replace w := w.1 c_5
        exact w_X1_startup_33 w
      · replace w := w.2 c_5
        refine jw_aload_n (pc' := 24) rfl rfl ?_
        refine jw_getR (pc' := 27) (F := 4) (t' := 112) rfl rfl rfl rfl rfl g_1 ?_
        refine jw_bipush (pc' := 29) (x := (78 : Int32)) rfl rfl ?_
        obtain ⟨g_6, w⟩ := w
        refine jw_cVH (st := []) (sa := [vR 112 (jfr h_2 4 r0), vI (78 : Int32)]) okX2_put rfl rfl rfl rfl rfl (jstp_virtual (sa := [vI (78 : Int32)]) (st := []) (k := 0) rfl rfl sX2_put okX2_put g_6 (one112.k g_6) rfl rfl) w (fun h_7 _ _ w => ?_) (fun x_10 h_11 _ _ w => ?_)
        · exact jw_return rfl rfl w
        · obtain ⟨e_12, w⟩ := w
          refine ⟨155, by rw [e_12]; rfl, by rw [e_12]; rfl, ?_⟩
          rw [e_12]
          refine jw_gen (ls' := [some (vR 1 r0), none, none, none, none]) (st' := [vR 9 x_10]) (And.intro (Or.inl rfl) (trivial)) (And.intro (Or.inl rfl) (trivial)) ?_
          exact w_X1_startup_155 w
  · obtain ⟨e_15, w⟩ := w
    refine ⟨155, by rw [e_15]; rfl, by rw [e_15]; rfl, ?_⟩
    rw [e_15]
    exact w_X1_startup_155 w
def T_X1_startup (D : JD) (d : Nat) (Q : JO → JH → Prop) (r0 : Nat) (h : JH) : Prop := W_X1_startup_0 D d Q r0 h
theorem t_X1_startup {D : JD} {d : Nat} {Q : JO → JH → Prop} {r0 : Nat} {h : JH} (w : T_X1_startup D d Q r0 h) : cX1_startup D (d + 1) r0 h Q := by
  unfold T_X1_startup at w
  unfold cX1_startup
  exact w_X1_startup_0 w
def W_X1_number_0 (D : JD) (d : Nat) (Q : JO → JH → Prop) (r0 : Nat) (x1 : Int32) (h : JH) : Prop :=
  r0 ≠ 0 ∧ ((((jfi h 13 r0) + x1) ≤ (jfi h 14 r0) → cX1_peek D d r0 (jfi h 13 r0) x1 h (pL D h (fun v_4 h_3 => ∀ h_5 : JH, h_5 = wfi h_3 13 r0 ((jfi h_3 13 r0) + x1) → (Q (.inl (some (vL v_4))) h_5)) (jth Q))) ∧ (¬ ((jfi h 13 r0) + x1) ≤ (jfi h 14 r0) → cX1_protocol D d r0 h (pR D h 9 (fun v_9 h_7 => v_9 ≠ 0 ∧ (Q (.inr v_9) h_7)) (jth Q))))
theorem w_X1_number_0 {D : JD} {d : Nat} {Q : JO → JH → Prop} {r0 : Nat} {x1 : Int32} {h : JH} (w : W_X1_number_0 D d Q r0 x1 h) : JW D (d + 1) mX1_number 0 [some (vR 1 r0), some (vI x1), none, none] [] h Q := by
  unfold W_X1_number_0 at w
  refine jw_aload_n (pc' := 1) rfl rfl ?_
  obtain ⟨g_1, w⟩ := w
  refine jw_getI (pc' := 4) (F := 13) rfl rfl rfl rfl g_1 ?_
  refine jw_iload_n (pc' := 5) rfl rfl ?_
  refine jw_iadd (pc' := 6) rfl ?_
  refine jw_aload_n (pc' := 7) rfl rfl ?_
  refine jw_getI (pc' := 10) (F := 14) rfl rfl rfl rfl g_1 ?_
  refine jw_icmp_le (tgt := 18) (pc' := 13) rfl rfl (fun c_2 => ?_) (fun c_2 => ?_)
  · replace w := w.1 c_2
    refine jw_aload_n (pc' := 19) rfl rfl ?_
    refine jw_aload_n (pc' := 20) rfl rfl ?_
    refine jw_getI (pc' := 23) (F := 13) rfl rfl rfl rfl g_1 ?_
    refine jw_iload_n (pc' := 24) rfl rfl ?_
    refine jw_cL (st := []) (sa := [vR 1 r0, vI (jfi h 13 r0), vI x1]) okX1_peek rfl rfl rfl rfl rfl rfl (jstp_virtual (sa := [vI (jfi h 13 r0), vI x1]) (st := []) (k := 0) rfl rfl sX1_peek okX1_peek g_1 (one1.k g_1) rfl rfl) w (fun v_4 h_3 _ _ w => ?_)
    refine jw_lstore_n (pc' := 28) (ls' := [some (vR 1 r0), some (vI x1), some (vL v_4), none]) rfl (by decide) rfl ?_
    refine jw_aload_n (pc' := 29) rfl rfl ?_
    refine jw_dup (pc' := 30) rfl rfl ?_
    refine jw_getI (pc' := 33) (F := 13) rfl rfl rfl rfl g_1 ?_
    refine jw_iload_n (pc' := 34) rfl rfl ?_
    refine jw_iadd (pc' := 35) rfl ?_
    refine jw_putI' (pc' := 38) (F := 13) rfl rfl rfl (Or.inr rfl) (Or.inl rfl) rfl (rfl) (rfl) rfl g_1 (fun h_5 e_6 => ?_)
    replace w := w h_5 e_6
    refine jw_lload_n (pc' := 39) rfl rfl ?_
    exact jw_lreturn rfl rfl w
  · replace w := w.2 c_2
    refine jw_aload_n (pc' := 14) rfl rfl ?_
    refine jw_cR (st := []) (sa := [vR 1 r0]) okX1_protocol rfl rfl rfl rfl rfl rfl (jstp_virtual (sa := []) (st := []) (k := 0) rfl rfl sX1_protocol okX1_protocol g_1 (one1.k g_1) rfl rfl) w (fun v_9 h_7 _ _ _ w => ?_)
    obtain ⟨g_10, w⟩ := w
    exact jw_athrow rfl rfl g_10 w
def T_X1_number (D : JD) (d : Nat) (Q : JO → JH → Prop) (r0 : Nat) (x1 : Int32) (h : JH) : Prop := W_X1_number_0 D d Q r0 x1 h
theorem t_X1_number {D : JD} {d : Nat} {Q : JO → JH → Prop} {r0 : Nat} {x1 : Int32} {h : JH} (w : T_X1_number D d Q r0 x1 h) : cX1_number D (d + 1) r0 x1 h Q := by
  unfold T_X1_number at w
  unfold cX1_number
  exact w_X1_number_0 w
def W_X1_protocol_0 (D : JD) (d : Nat) (Q : JO → JH → Prop) (h : JH) : Prop :=
  cX1_fault D d (jcs D 2) h (pR D h 9 (fun v_3 h_1 => Q (.inl (some (vR 9 v_3))) h_1) (jth Q))
theorem w_X1_protocol_0 {D : JD} {d : Nat} {Q : JO → JH → Prop} {h : JH} (w : W_X1_protocol_0 D d Q h) : JW D (d + 1) mX1_protocol 0 [none] [] h Q := by
  unfold W_X1_protocol_0 at w
  refine jw_ldcS (pc' := 2) rfl rfl rfl rfl ?_
  refine jw_cR (st := []) (sa := [vR 51 (jcs D 2)]) okX1_fault rfl rfl rfl rfl rfl rfl (jstp_static (sa := [vR 51 (jcs D 2)]) (st := []) rfl rfl sX1_fault okX1_fault rfl rfl) w (fun v_3 h_1 _ _ _ w => ?_)
  exact jw_areturn rfl rfl rfl rfl rfl w
def T_X1_protocol (D : JD) (d : Nat) (Q : JO → JH → Prop) (r0 : Nat) (h : JH) : Prop := W_X1_protocol_0 D d Q h
theorem t_X1_protocol {D : JD} {d : Nat} {Q : JO → JH → Prop} {r0 : Nat} {h : JH} (w : T_X1_protocol D d Q r0 h) : cX1_protocol D (d + 1) r0 h Q := by
  unfold T_X1_protocol at w
  unfold cX1_protocol
  refine jw_gen (ls' := [none]) (st' := []) (trivial) (trivial) ?_
  exact w_X1_protocol_0 w
def W_X1_string_63 (D : JD) (d : Nat) (Q : JO → JH → Prop) (r0 : Nat) (r1 : Nat) (h : JH) : Prop :=
  r0 ≠ 0 ∧ ((¬ (jfi h 13 r0) = (jfi h 14 r0) → ∀ h_3 : JH, h_3 = wfi h 13 r0 ((jfi h 13 r0) + (1 : Int32)) → (r1 ≠ 0 ∧ (cJ13_toString D d r1 h_3 (pR D h_3 64 (fun v_8 h_6 => Q (.inl (some (vR 64 v_8))) h_6) (jth Q))))) ∧ ((jfi h 13 r0) = (jfi h 14 r0) → cX1_protocol D d r0 h (pR D h 9 (fun v_11 h_9 => v_11 ≠ 0 ∧ (Q (.inr v_11) h_9)) (jth Q))))
theorem w_X1_string_63 {D : JD} {d : Nat} {Q : JO → JH → Prop} {r0 : Nat} {r1 : Nat} {h : JH} (w : W_X1_string_63 D d Q r0 r1 h) : JW D (d + 1) mX1_string 63 [some (vR 1 r0), some (vR 11 r1)] [] h Q := by
  unfold W_X1_string_63 at w
  refine jw_aload_n (pc' := 64) rfl rfl ?_
  obtain ⟨g_1, w⟩ := w
  refine jw_getI (pc' := 67) (F := 13) rfl rfl rfl rfl g_1 ?_
  refine jw_aload_n (pc' := 68) rfl rfl ?_
  refine jw_getI (pc' := 71) (F := 14) rfl rfl rfl rfl g_1 ?_
  refine jw_icmp_ne (tgt := 79) (pc' := 74) rfl rfl (fun c_2 => ?_) (fun c_2 => ?_)
  · replace w := w.1 c_2
    refine jw_aload_n (pc' := 80) rfl rfl ?_
    refine jw_dup (pc' := 81) rfl rfl ?_
    refine jw_getI (pc' := 84) (F := 13) rfl rfl rfl rfl g_1 ?_
    refine jw_iconst (pc' := 85) (x := (1 : Int32)) rfl rfl ?_
    refine jw_iadd (pc' := 86) rfl ?_
    refine jw_putI' (pc' := 89) (F := 13) rfl rfl rfl (Or.inr rfl) (Or.inl rfl) rfl (rfl) (rfl) rfl g_1 (fun h_3 e_4 => ?_)
    replace w := w h_3 e_4
    refine jw_aload_n (pc' := 90) rfl rfl ?_
    obtain ⟨g_5, w⟩ := w
    refine jw_cR (st := []) (sa := [vR 11 r1]) okJ13_toString rfl rfl rfl rfl rfl rfl (jstp_virtual (sa := []) (st := []) (k := 0) rfl rfl sJ13_toString okJ13_toString g_5 (one11.k g_5) rfl rfl) w (fun v_8 h_6 _ _ _ w => ?_)
    exact jw_areturn rfl rfl rfl rfl rfl w
  · replace w := w.2 c_2
    refine jw_aload_n (pc' := 75) rfl rfl ?_
    refine jw_cR (st := []) (sa := [vR 1 r0]) okX1_protocol rfl rfl rfl rfl rfl rfl (jstp_virtual (sa := []) (st := []) (k := 0) rfl rfl sX1_protocol okX1_protocol g_1 (one1.k g_1) rfl rfl) w (fun v_11 h_9 _ _ _ w => ?_)
    obtain ⟨g_12, w⟩ := w
    exact jw_athrow rfl rfl g_12 w
def W_X1_string_8 (D : JD) (d : Nat) (Q : JO → JH → Prop) (K8 : Nat → Nat → JH → Prop) (r0 : Nat) (r1 : Nat) (h : JH) : Prop :=
  r0 ≠ 0 ∧ (((jfi h 14 r0) ≤ (jfi h 13 r0) → W_X1_string_63 D d Q r0 r1 h) ∧ (¬ (jfi h 14 r0) ≤ (jfi h 13 r0) → (jfr h 2 r0) ≠ 0 ∧ jin (jfi h 13 r0) (jln h (jfr h 2 r0)) ∧ (((jai h (jfr h 2 r0) (ixn (jfi h 13 r0))) = 0 → W_X1_string_63 D d Q r0 r1 h) ∧ (¬ (jai h (jfr h 2 r0) (ixn (jfi h 13 r0))) = 0 → jin (jfi h 13 r0) (jln h (jfr h 2 r0)) ∧ (r1 ≠ 0 ∧ (cJ13_append D d r1 ((Int32.toUInt32 ((jai h (jfr h 2 r0) (ixn (jfi h 13 r0))) &&& (255 : Int32)) % 65536).toInt32) h (pR D h 11 (fun v_10 h_8 => ∀ h_11 : JH, h_11 = wfi h_8 13 r0 ((jfi h_8 13 r0) + (1 : Int32)) → (K8 r0 r1 h_11)) (jth Q))))))))
theorem w_X1_string_8 {D : JD} {d : Nat} {Q : JO → JH → Prop} {K8 : Nat → Nat → JH → Prop} {r0 : Nat} {r1 : Nat} {h : JH} (hK8 : ∀ (r0 : Nat) (r1 : Nat) (h : JH), K8 r0 r1 h → JW D (d + 1) mX1_string 8 [some (vR 1 r0), some (vR 11 r1)] [] h Q) (w : W_X1_string_8 D d Q K8 r0 r1 h) : JW D (d + 1) mX1_string 8 [some (vR 1 r0), some (vR 11 r1)] [] h Q := by
  unfold W_X1_string_8 at w
  refine jw_aload_n (pc' := 9) rfl rfl ?_
  obtain ⟨g_1, w⟩ := w
  refine jw_getI (pc' := 12) (F := 13) rfl rfl rfl rfl g_1 ?_
  refine jw_aload_n (pc' := 13) rfl rfl ?_
  refine jw_getI (pc' := 16) (F := 14) rfl rfl rfl rfl g_1 ?_
  refine jw_icmp_ge (tgt := 63) (pc' := 19) rfl rfl (fun c_2 => ?_) (fun c_2 => ?_)
  · replace w := w.1 c_2
    exact w_X1_string_63 w
  · replace w := w.2 c_2
    refine jw_aload_n (pc' := 20) rfl rfl ?_
    refine jw_getR (pc' := 23) (F := 2) (t' := 123) rfl rfl rfl rfl rfl g_1 ?_
    refine jw_aload_n (pc' := 24) rfl rfl ?_
    refine jw_getI (pc' := 27) (F := 13) rfl rfl rfl rfl g_1 ?_
    obtain ⟨g_3, w⟩ := w
    obtain ⟨g_4, w⟩ := w
    refine jw_bald (pc' := 28) rfl rfl rfl rfl g_3 g_4.ix g_4.2 ?_
    refine jw_if_eq (tgt := 63) (pc' := 31) rfl rfl (fun c_5 => ?_) (fun c_5 => ?_)
    · replace w := w.1 c_5
      exact w_X1_string_63 w
    · replace w := w.2 c_5
      refine jw_aload_n (pc' := 32) rfl rfl ?_
      refine jw_aload_n (pc' := 33) rfl rfl ?_
      refine jw_getR (pc' := 36) (F := 2) (t' := 123) rfl rfl rfl rfl rfl g_1 ?_
      refine jw_aload_n (pc' := 37) rfl rfl ?_
      refine jw_getI (pc' := 40) (F := 13) rfl rfl rfl rfl g_1 ?_
      obtain ⟨g_6, w⟩ := w
      refine jw_bald (pc' := 41) rfl rfl rfl rfl g_3 g_6.ix g_6.2 ?_
      refine jw_sipush (pc' := 44) (x := (255 : Int32)) rfl rfl ?_
      refine jw_iand (pc' := 45) rfl ?_
      refine jw_i2c (pc' := 46) rfl ?_
      obtain ⟨g_7, w⟩ := w
      refine jw_cR (st := []) (sa := [vR 11 r1, vI ((Int32.toUInt32 ((jai h (jfr h 2 r0) (ixn (jfi h 13 r0))) &&& (255 : Int32)) % 65536).toInt32)]) okJ13_append rfl rfl rfl rfl rfl rfl (jstp_virtual (sa := [vI ((Int32.toUInt32 ((jai h (jfr h 2 r0) (ixn (jfi h 13 r0))) &&& (255 : Int32)) % 65536).toInt32)]) (st := []) (k := 0) rfl rfl sJ13_append okJ13_append g_7 (one11.k g_7) rfl rfl) w (fun v_10 h_8 _ _ _ w => ?_)
      refine jw_pop (pc' := 50) rfl rfl ?_
      refine jw_aload_n (pc' := 51) rfl rfl ?_
      refine jw_dup (pc' := 52) rfl rfl ?_
      refine jw_getI (pc' := 55) (F := 13) rfl rfl rfl rfl g_1 ?_
      refine jw_iconst (pc' := 56) (x := (1 : Int32)) rfl rfl ?_
      refine jw_iadd (pc' := 57) rfl ?_
      refine jw_putI' (pc' := 60) (F := 13) rfl rfl rfl (Or.inr rfl) (Or.inl rfl) rfl (rfl) (rfl) rfl g_1 (fun h_11 e_12 => ?_)
      replace w := w h_11 e_12
      refine jw_goto (pc' := 8) rfl rfl ?_
      exact hK8 _ _ _ w
def L_X1_string_8 (D : JD) (d : Nat) (Q : JO → JH → Prop) : Nat → Nat → Nat → JH → Prop
  | 0 => fun _ _ _ => False
  | n + 1 => fun r0 r1 h => W_X1_string_8 D d Q (L_X1_string_8 D d Q n) r0 r1 h
theorem l_X1_string_8 {D : JD} {d : Nat} {Q : JO → JH → Prop} : ∀ (n : Nat) (r0 : Nat) (r1 : Nat) (h : JH), L_X1_string_8 D d Q n r0 r1 h → JW D (d + 1) mX1_string 8 [some (vR 1 r0), some (vR 11 r1)] [] h Q := by
  intro n
  induction n with
  | zero => intro _ _ _ w; exact w.elim
  | succ n ih => intro _ _ h w; exact w_X1_string_8 ih w
def W_X1_string_0 (D : JD) (d : Nat) (Q : JO → JH → Prop) (r0 : Nat) (h : JH) : Prop :=
  ∀ (r_1 : Nat) (h_2 : JH), r_1 = jsz h + 1 → h_2 = nwo h 11 4 → (cJ13_init D d r_1 h_2 (pV D h_2 (fun h_5 => ∃ n, L_X1_string_8 D d Q n r0 r_1 h_5) (jth Q)))
theorem w_X1_string_0 {D : JD} {d : Nat} {Q : JO → JH → Prop} {r0 : Nat} {h : JH} (w : W_X1_string_0 D d Q r0 h) : JW D (d + 1) mX1_string 0 [some (vR 1 r0), none] [] h Q := by
  unfold W_X1_string_0 at w
  refine jw_new' (pc' := 3) (k := 11) (n := 4) rfl rfl rfl rfl rfl rfl rfl (fun r_1 h_2 e_3 e_4 => ?_)
  replace w := w r_1 h_2 e_3 e_4
  refine jw_dup (pc' := 4) rfl rfl ?_
  refine jw_cV (st := [vR 11 r_1]) (sa := [vR 11 r_1]) okJ13_init rfl rfl rfl rfl rfl rfl (jstp_init (sa := []) (st := [vR 11 r_1]) rfl rfl sJ13_init okJ13_init (lw_g (jtb_mem (c := 3) (i := 134) rfl) rfl) (jnz e_3) rfl rfl) w (fun h_5 _ _ w => ?_)
  refine jw_astore_n (pc' := 8) (ls' := [some (vR 1 r0), some (vR 11 r_1)]) rfl (by decide) rfl ?_
  obtain ⟨n, w⟩ := w
  exact l_X1_string_8 n _ _ _ w
def T_X1_string (D : JD) (d : Nat) (Q : JO → JH → Prop) (r0 : Nat) (h : JH) : Prop := W_X1_string_0 D d Q r0 h
theorem t_X1_string {D : JD} {d : Nat} {Q : JO → JH → Prop} {r0 : Nat} {h : JH} (w : T_X1_string D d Q r0 h) : cX1_string D (d + 1) r0 h Q := by
  unfold T_X1_string at w
  unfold cX1_string
  exact w_X1_string_0 w
def W_X1_all_0 (D : JD) (d : Nat) (Q : JO → JH → Prop) (r0 : Nat) (h : JH) : Prop :=
  r0 ≠ 0 ∧ (((jfi h 13 r0) = (jfi h 14 r0) → Q (.inl none) h) ∧ (¬ (jfi h 13 r0) = (jfi h 14 r0) → cX1_protocol D d r0 h (pR D h 9 (fun v_5 h_3 => v_5 ≠ 0 ∧ (Q (.inr v_5) h_3)) (jth Q))))
theorem w_X1_all_0 {D : JD} {d : Nat} {Q : JO → JH → Prop} {r0 : Nat} {h : JH} (w : W_X1_all_0 D d Q r0 h) : JW D (d + 1) mX1_all 0 [some (vR 1 r0)] [] h Q := by
  unfold W_X1_all_0 at w
  refine jw_aload_n (pc' := 1) rfl rfl ?_
  obtain ⟨g_1, w⟩ := w
  refine jw_getI (pc' := 4) (F := 13) rfl rfl rfl rfl g_1 ?_
  refine jw_aload_n (pc' := 5) rfl rfl ?_
  refine jw_getI (pc' := 8) (F := 14) rfl rfl rfl rfl g_1 ?_
  refine jw_icmp_eq (tgt := 16) (pc' := 11) rfl rfl (fun c_2 => ?_) (fun c_2 => ?_)
  · replace w := w.1 c_2
    exact jw_return rfl rfl w
  · replace w := w.2 c_2
    refine jw_aload_n (pc' := 12) rfl rfl ?_
    refine jw_cR (st := []) (sa := [vR 1 r0]) okX1_protocol rfl rfl rfl rfl rfl rfl (jstp_virtual (sa := []) (st := []) (k := 0) rfl rfl sX1_protocol okX1_protocol g_1 (one1.k g_1) rfl rfl) w (fun v_5 h_3 _ _ _ w => ?_)
    obtain ⟨g_6, w⟩ := w
    exact jw_athrow rfl rfl g_6 w
def T_X1_all (D : JD) (d : Nat) (Q : JO → JH → Prop) (r0 : Nat) (h : JH) : Prop := W_X1_all_0 D d Q r0 h
theorem t_X1_all {D : JD} {d : Nat} {Q : JO → JH → Prop} {r0 : Nat} {h : JH} (w : T_X1_all D d Q r0 h) : cX1_all D (d + 1) r0 h Q := by
  unfold T_X1_all at w
  unfold cX1_all
  exact w_X1_all_0 w
def W_X1_error_78 (D : JD) (d : Nat) (Q : JO → JH → Prop) (r0 : Nat) (h : JH) : Prop :=
  r0 ≠ 0 ∧ ((jfr h 4 r0) ≠ 0 ∧ (cX2_put D d (jfr h 4 r0) (0 : Int32) h (pV D h (fun h_3 => (jfr h_3 4 r0) ≠ 0 ∧ (cX2_close D d (jfr h_3 4 r0) h_3 (pV D h_3 (fun h_7 => Q (.inl none) h_7) (jth Q)))) (jth Q))))
theorem w_X1_error_78 {D : JD} {d : Nat} {Q : JO → JH → Prop} {r0 : Nat} {h : JH} (w : W_X1_error_78 D d Q r0 h) : JW D (d + 1) mX1_error 78 [some (vR 1 r0), none] [] h Q := by
  unfold W_X1_error_78 at w
  refine jw_aload_n (pc' := 79) rfl rfl ?_
  obtain ⟨g_1, w⟩ := w
  refine jw_getR (pc' := 82) (F := 4) (t' := 112) rfl rfl rfl rfl rfl g_1 ?_
  refine jw_iconst (pc' := 83) (x := (0 : Int32)) rfl rfl ?_
  obtain ⟨g_2, w⟩ := w
  refine jw_cV (st := []) (sa := [vR 112 (jfr h 4 r0), vI (0 : Int32)]) okX2_put rfl rfl rfl rfl rfl rfl (jstp_virtual (sa := [vI (0 : Int32)]) (st := []) (k := 0) rfl rfl sX2_put okX2_put g_2 (one112.k g_2) rfl rfl) w (fun h_3 _ _ w => ?_)
  refine jw_aload_n (pc' := 87) rfl rfl ?_
  refine jw_getR (pc' := 90) (F := 4) (t' := 112) rfl rfl rfl rfl rfl g_1 ?_
  obtain ⟨g_6, w⟩ := w
  refine jw_cV (st := []) (sa := [vR 112 (jfr h_3 4 r0)]) okX2_close rfl rfl rfl rfl rfl rfl (jstp_virtual (sa := []) (st := []) (k := 0) rfl rfl sX2_close okX2_close g_6 (one112.k g_6) rfl rfl) w (fun h_7 _ _ w => ?_)
  exact jw_return rfl rfl w
def W_X1_error_0 (D : JD) (d : Nat) (Q : JO → JH → Prop) (r0 : Nat) (r1 : Nat) (h : JH) : Prop :=
  r0 ≠ 0 ∧ ((jfr h 4 r0) ≠ 0 ∧ (cX2_open D d (jfr h 4 r0) (69 : Int32) h (pR D h 2 (fun v_5 h_3 => (jfr h_3 4 r0) ≠ 0 ∧ (cX2_put D d (jfr h_3 4 r0) (83 : Int32) h_3 (pV D h_3 (fun h_7 => (jfr h_7 4 r0) ≠ 0 ∧ (cX2_string D d (jfr h_7 4 r0) (jcs D 6) h_7 (pV D h_7 (fun h_11 => (jfr h_11 4 r0) ≠ 0 ∧ (cX2_put D d (jfr h_11 4 r0) (67 : Int32) h_11 (pV D h_11 (fun h_15 => r1 ≠ 0 ∧ (cX16_code D d r1 h_15 (pR D h_15 64 (fun v_21 h_19 => (jfr h_15 4 r0) ≠ 0 ∧ (cX2_string D d (jfr h_15 4 r0) v_21 h_19 (pV D h_19 (fun h_23 => cX16_place D d r1 h_23 (pI D h_23 (fun v_28 h_26 => (v_28 < 0 → W_X1_error_78 D d Q r0 h_26) ∧ (¬ v_28 < 0 → (jfr h_26 4 r0) ≠ 0 ∧ (cX2_put D d (jfr h_26 4 r0) (80 : Int32) h_26 (pV D h_26 (fun h_31 => cX16_place D d r1 h_31 (pI D h_31 (fun v_36 h_34 => cJ17_toString D d v_36 h_34 (pR D h_34 64 (fun v_39 h_37 => (jfr h_31 4 r0) ≠ 0 ∧ (cX2_string D d (jfr h_31 4 r0) v_39 h_37 (pV D h_37 (fun h_41 => W_X1_error_78 D d Q r0 h_41) (jth Q)))) (jth Q))) (jth Q))) (jth Q))))) (jth Q))) (jth Q)))) (jth Q)))) (jth Q)))) (jth Q)))) (jth Q)))) (jth Q))))
theorem w_X1_error_0 {D : JD} {d : Nat} {Q : JO → JH → Prop} {r0 : Nat} {r1 : Nat} {h : JH} (w : W_X1_error_0 D d Q r0 r1 h) : JW D (d + 1) mX1_error 0 [some (vR 1 r0), some (vR 9 r1)] [] h Q := by
  unfold W_X1_error_0 at w
  refine jw_aload_n (pc' := 1) rfl rfl ?_
  obtain ⟨g_1, w⟩ := w
  refine jw_getR (pc' := 4) (F := 4) (t' := 112) rfl rfl rfl rfl rfl g_1 ?_
  refine jw_bipush (pc' := 6) (x := (69 : Int32)) rfl rfl ?_
  obtain ⟨g_2, w⟩ := w
  refine jw_cR (st := []) (sa := [vR 112 (jfr h 4 r0), vI (69 : Int32)]) okX2_open rfl rfl rfl rfl rfl rfl (jstp_virtual (sa := [vI (69 : Int32)]) (st := []) (k := 0) rfl rfl sX2_open okX2_open g_2 (one112.k g_2) rfl rfl) w (fun v_5 h_3 _ _ _ w => ?_)
  refine jw_pop (pc' := 10) rfl rfl ?_
  refine jw_aload_n (pc' := 11) rfl rfl ?_
  refine jw_getR (pc' := 14) (F := 4) (t' := 112) rfl rfl rfl rfl rfl g_1 ?_
  refine jw_bipush (pc' := 16) (x := (83 : Int32)) rfl rfl ?_
  obtain ⟨g_6, w⟩ := w
  refine jw_cV (st := []) (sa := [vR 112 (jfr h_3 4 r0), vI (83 : Int32)]) okX2_put rfl rfl rfl rfl rfl rfl (jstp_virtual (sa := [vI (83 : Int32)]) (st := []) (k := 0) rfl rfl sX2_put okX2_put g_6 (one112.k g_6) rfl rfl) w (fun h_7 _ _ w => ?_)
  refine jw_aload_n (pc' := 20) rfl rfl ?_
  refine jw_getR (pc' := 23) (F := 4) (t' := 112) rfl rfl rfl rfl rfl g_1 ?_
  refine jw_ldcS (pc' := 25) rfl rfl rfl rfl ?_
  obtain ⟨g_10, w⟩ := w
  refine jw_cV (st := []) (sa := [vR 112 (jfr h_7 4 r0), vR 51 (jcs D 6)]) okX2_string rfl rfl rfl rfl rfl rfl (jstp_virtual (sa := [vR 51 (jcs D 6)]) (st := []) (k := 0) rfl rfl sX2_string okX2_string g_10 (one112.k g_10) rfl rfl) w (fun h_11 _ _ w => ?_)
  refine jw_aload_n (pc' := 29) rfl rfl ?_
  refine jw_getR (pc' := 32) (F := 4) (t' := 112) rfl rfl rfl rfl rfl g_1 ?_
  refine jw_bipush (pc' := 34) (x := (67 : Int32)) rfl rfl ?_
  obtain ⟨g_14, w⟩ := w
  refine jw_cV (st := []) (sa := [vR 112 (jfr h_11 4 r0), vI (67 : Int32)]) okX2_put rfl rfl rfl rfl rfl rfl (jstp_virtual (sa := [vI (67 : Int32)]) (st := []) (k := 0) rfl rfl sX2_put okX2_put g_14 (one112.k g_14) rfl rfl) w (fun h_15 _ _ w => ?_)
  refine jw_aload_n (pc' := 38) rfl rfl ?_
  refine jw_getR (pc' := 41) (F := 4) (t' := 112) rfl rfl rfl rfl rfl g_1 ?_
  refine jw_aload_n (pc' := 42) rfl rfl ?_
  obtain ⟨g_18, w⟩ := w
  refine jw_cR (st := [vR 112 (jfr h_15 4 r0)]) (sa := [vR 9 r1]) okX16_code rfl rfl rfl rfl rfl rfl (jstp_virtual (sa := []) (st := [vR 112 (jfr h_15 4 r0)]) (k := 0) rfl rfl sX16_code okX16_code g_18 (one9.k g_18) rfl rfl) w (fun v_21 h_19 _ _ _ w => ?_)
  obtain ⟨g_22, w⟩ := w
  refine jw_cV (st := []) (sa := [vR 112 (jfr h_15 4 r0), vR 64 v_21]) okX2_string rfl rfl rfl rfl rfl rfl (jstp_virtual (sa := [vR 64 v_21]) (st := []) (k := 0) rfl rfl sX2_string okX2_string g_22 (one112.k g_22) rfl rfl) w (fun h_23 _ _ w => ?_)
  refine jw_aload_n (pc' := 49) rfl rfl ?_
  refine jw_cI (st := []) (sa := [vR 9 r1]) okX16_place rfl rfl rfl rfl rfl rfl (jstp_virtual (sa := []) (st := []) (k := 0) rfl rfl sX16_place okX16_place g_18 (one9.k g_18) rfl rfl) w (fun v_28 h_26 _ _ w => ?_)
  refine jw_if_lt (tgt := 78) (pc' := 55) rfl rfl (fun c_29 => ?_) (fun c_29 => ?_)
  · replace w := w.1 c_29
    refine jw_gen (ls' := [some (vR 1 r0), none]) (st' := []) (And.intro (Or.inl rfl) (trivial)) (trivial) ?_
    exact w_X1_error_78 w
  · replace w := w.2 c_29
    refine jw_aload_n (pc' := 56) rfl rfl ?_
    refine jw_getR (pc' := 59) (F := 4) (t' := 112) rfl rfl rfl rfl rfl g_1 ?_
    refine jw_bipush (pc' := 61) (x := (80 : Int32)) rfl rfl ?_
    obtain ⟨g_30, w⟩ := w
    refine jw_cV (st := []) (sa := [vR 112 (jfr h_26 4 r0), vI (80 : Int32)]) okX2_put rfl rfl rfl rfl rfl rfl (jstp_virtual (sa := [vI (80 : Int32)]) (st := []) (k := 0) rfl rfl sX2_put okX2_put g_30 (one112.k g_30) rfl rfl) w (fun h_31 _ _ w => ?_)
    refine jw_aload_n (pc' := 65) rfl rfl ?_
    refine jw_getR (pc' := 68) (F := 4) (t' := 112) rfl rfl rfl rfl rfl g_1 ?_
    refine jw_aload_n (pc' := 69) rfl rfl ?_
    refine jw_cI (st := [vR 112 (jfr h_31 4 r0)]) (sa := [vR 9 r1]) okX16_place rfl rfl rfl rfl rfl rfl (jstp_virtual (sa := []) (st := [vR 112 (jfr h_31 4 r0)]) (k := 0) rfl rfl sX16_place okX16_place g_18 (one9.k g_18) rfl rfl) w (fun v_36 h_34 _ _ w => ?_)
    refine jw_cR (st := [vR 112 (jfr h_31 4 r0)]) (sa := [vI v_36]) okJ17_toString rfl rfl rfl rfl rfl rfl (jstp_static (sa := [vI v_36]) (st := [vR 112 (jfr h_31 4 r0)]) rfl rfl sJ17_toString okJ17_toString rfl rfl) w (fun v_39 h_37 _ _ _ w => ?_)
    obtain ⟨g_40, w⟩ := w
    refine jw_cV (st := []) (sa := [vR 112 (jfr h_31 4 r0), vR 64 v_39]) okX2_string rfl rfl rfl rfl rfl rfl (jstp_virtual (sa := [vR 64 v_39]) (st := []) (k := 0) rfl rfl sX2_string okX2_string g_40 (one112.k g_40) rfl rfl) w (fun h_41 _ _ w => ?_)
    refine jw_gen (ls' := [some (vR 1 r0), none]) (st' := []) (And.intro (Or.inl rfl) (trivial)) (trivial) ?_
    exact w_X1_error_78 w
def T_X1_error (D : JD) (d : Nat) (Q : JO → JH → Prop) (r0 : Nat) (r1 : Nat) (h : JH) : Prop := W_X1_error_0 D d Q r0 r1 h
theorem t_X1_error {D : JD} {d : Nat} {Q : JO → JH → Prop} {r0 : Nat} {r1 : Nat} {h : JH} (w : T_X1_error D d Q r0 r1 h) : cX1_error D (d + 1) r0 r1 h Q := by
  unfold T_X1_error at w
  unfold cX1_error
  exact w_X1_error_0 w
def W_X1_password_182 (D : JD) (d : Nat) (Q : JO → JH → Prop) (h : JH) : Prop :=
  Q (.inl none) h
theorem w_X1_password_182 {D : JD} {d : Nat} {Q : JO → JH → Prop} {h : JH} (w : W_X1_password_182 D d Q h) : JW D (d + 1) mX1_password 182 [none, none, none, none, none] [] h Q := by
  unfold W_X1_password_182 at w
  exact jw_return rfl rfl w
def W_X1_password_172 (D : JD) (d : Nat) (Q : JO → JH → Prop) (r0 : Nat) (q0 : Nat) (h : JH) : Prop :=
  r0 ≠ 0 ∧ (cX1_error D d r0 q0 h (pV D h (fun h_2 => cX1_close D d r0 h_2 (pV D h_2 (fun h_5 => W_X1_password_182 D d Q h_5) (jth Q))) (jth Q)))
theorem w_X1_password_172 {D : JD} {d : Nat} {Q : JO → JH → Prop} {r0 : Nat} {q0 : Nat} {h : JH} (w : W_X1_password_172 D d Q r0 q0 h) : JW D (d + 1) mX1_password 172 [some (vR 1 r0), none, none, none, none] [vR 9 q0] h Q := by
  unfold W_X1_password_172 at w
  refine jw_astore_n (pc' := 173) (ls' := [some (vR 1 r0), none, some (vR 9 q0), none, none]) rfl (by decide) rfl ?_
  refine jw_aload_n (pc' := 174) rfl rfl ?_
  refine jw_aload_n (pc' := 175) rfl rfl ?_
  obtain ⟨g_1, w⟩ := w
  refine jw_cV (st := []) (sa := [vR 1 r0, vR 9 q0]) okX1_error rfl rfl rfl rfl rfl rfl (jstp_virtual (sa := [vR 9 q0]) (st := []) (k := 0) rfl rfl sX1_error okX1_error g_1 (one1.k g_1) rfl rfl) w (fun h_2 _ _ w => ?_)
  refine jw_aload_n (pc' := 179) rfl rfl ?_
  refine jw_cV (st := []) (sa := [vR 1 r0]) okX1_close rfl rfl rfl rfl rfl rfl (jstp_virtual (sa := []) (st := []) (k := 0) rfl rfl sX1_close okX1_close g_1 (one1.k g_1) rfl rfl) w (fun h_5 _ _ w => ?_)
  refine jw_gen (ls' := [none, none, none, none, none]) (st' := []) (trivial) (trivial) ?_
  exact w_X1_password_182 w
def W_X1_password_99 (D : JD) (d : Nat) (Q : JO → JH → Prop) (r0 : Nat) (x3 : Int32) (h : JH) : Prop :=
  (¬ x3 = 0 → r0 ≠ 0 ∧ ((jfr h 4 r0) ≠ 0 ∧ (cX2_open D d (jfr h 4 r0) (82 : Int32) h (pR D h 2 (fun v_6 h_4 => v_6 ≠ 0 ∧ (cX2_number D d v_6 (0 : Int64) (4 : Int32) h_4 (pV D h_4 (fun h_8 => (jfr h_8 4 r0) ≠ 0 ∧ (cX2_close D d (jfr h_8 4 r0) h_8 (pV D h_8 (fun h_12 => (jfr h_12 4 r0) ≠ 0 ∧ (cX2_open D d (jfr h_12 4 r0) (83 : Int32) h_12 (pR D h_12 2 (fun v_18 h_16 => v_18 ≠ 0 ∧ (cX2_string D d v_18 (jcs D 8) h_16 (pV D h_16 (fun h_20 => (jfr h_20 4 r0) ≠ 0 ∧ (cX2_string D d (jfr h_20 4 r0) (jcs D 9) h_20 (pV D h_20 (fun h_24 => (jfr h_24 4 r0) ≠ 0 ∧ (cX2_close D d (jfr h_24 4 r0) h_24 (pV D h_24 (fun h_28 => ∀ h_31 : JH, h_31 = wfi h_28 5 r0 (2 : Int32) → (cX1_ready D d r0 h_31 (pV D h_31 (fun h_33 => W_X1_password_182 D d Q h_33) (fun x_36 h_37 => (jkd h_37 x_36 = 9 ∧ W_X1_password_172 D d Q r0 x_36 h_37))))) (fun x_39 h_40 => (jkd h_40 x_39 = 9 ∧ W_X1_password_172 D d Q r0 x_39 h_40))))) (fun x_42 h_43 => (jkd h_43 x_42 = 9 ∧ W_X1_password_172 D d Q r0 x_42 h_43))))) (fun x_45 h_46 => (jkd h_46 x_45 = 9 ∧ W_X1_password_172 D d Q r0 x_45 h_46))))) (fun x_48 h_49 => (jkd h_49 x_48 = 9 ∧ W_X1_password_172 D d Q r0 x_48 h_49))))) (fun x_51 h_52 => (jkd h_52 x_51 = 9 ∧ W_X1_password_172 D d Q r0 x_51 h_52))))) (fun x_54 h_55 => (jkd h_55 x_54 = 9 ∧ W_X1_password_172 D d Q r0 x_54 h_55))))) (fun x_57 h_58 => (jkd h_58 x_57 = 9 ∧ W_X1_password_172 D d Q r0 x_57 h_58)))))) ∧ (x3 = 0 → cX1_fault D d (jcs D 7) h (pR D h 9 (fun v_62 h_60 => v_62 ≠ 0 ∧ ((jkd h_60 v_62 = 9 ∧ W_X1_password_172 D d Q r0 v_62 h_60))) (fun x_65 h_66 => (jkd h_66 x_65 = 9 ∧ W_X1_password_172 D d Q r0 x_65 h_66))))
theorem w_X1_password_99 {D : JD} {d : Nat} {Q : JO → JH → Prop} {r0 : Nat} {x3 : Int32} {h : JH} (w : W_X1_password_99 D d Q r0 x3 h) : JW D (d + 1) mX1_password 99 [some (vR 1 r0), none, none, some (vI x3), none] [] h Q := by
  unfold W_X1_password_99 at w
  refine jw_iload_n (pc' := 100) rfl rfl ?_
  refine jw_if_ne (tgt := 109) (pc' := 103) rfl rfl (fun c_1 => ?_) (fun c_1 => ?_)
  · replace w := w.1 c_1
    refine jw_aload_n (pc' := 110) rfl rfl ?_
    obtain ⟨g_2, w⟩ := w
    refine jw_getR (pc' := 113) (F := 4) (t' := 112) rfl rfl rfl rfl rfl g_2 ?_
    refine jw_bipush (pc' := 115) (x := (82 : Int32)) rfl rfl ?_
    obtain ⟨g_3, w⟩ := w
    refine jw_cRH (st := []) (sa := [vR 112 (jfr h 4 r0), vI (82 : Int32)]) okX2_open rfl rfl rfl rfl rfl (jstp_virtual (sa := [vI (82 : Int32)]) (st := []) (k := 0) rfl rfl sX2_open okX2_open g_3 (one112.k g_3) rfl rfl) w (fun v_6 h_4 _ _ _ w => ?_) (fun x_57 h_58 _ _ w => ?_)
    · refine jw_lconst (pc' := 119) (x := (0 : Int64)) rfl rfl ?_
      refine jw_iconst (pc' := 120) (x := (4 : Int32)) rfl rfl ?_
      obtain ⟨g_7, w⟩ := w
      refine jw_cVH (st := []) (sa := [vR 2 v_6, vL (0 : Int64), vI (4 : Int32)]) okX2_number rfl rfl rfl rfl rfl (jstp_virtual (sa := [vL (0 : Int64), vI (4 : Int32)]) (st := []) (k := 0) rfl rfl sX2_number okX2_number g_7 (one2.k g_7) rfl rfl) w (fun h_8 _ _ w => ?_) (fun x_54 h_55 _ _ w => ?_)
      · refine jw_aload_n (pc' := 124) rfl rfl ?_
        refine jw_getR (pc' := 127) (F := 4) (t' := 112) rfl rfl rfl rfl rfl g_2 ?_
        obtain ⟨g_11, w⟩ := w
        refine jw_cVH (st := []) (sa := [vR 112 (jfr h_8 4 r0)]) okX2_close rfl rfl rfl rfl rfl (jstp_virtual (sa := []) (st := []) (k := 0) rfl rfl sX2_close okX2_close g_11 (one112.k g_11) rfl rfl) w (fun h_12 _ _ w => ?_) (fun x_51 h_52 _ _ w => ?_)
        · refine jw_aload_n (pc' := 131) rfl rfl ?_
          refine jw_getR (pc' := 134) (F := 4) (t' := 112) rfl rfl rfl rfl rfl g_2 ?_
          refine jw_bipush (pc' := 136) (x := (83 : Int32)) rfl rfl ?_
          obtain ⟨g_15, w⟩ := w
          refine jw_cRH (st := []) (sa := [vR 112 (jfr h_12 4 r0), vI (83 : Int32)]) okX2_open rfl rfl rfl rfl rfl (jstp_virtual (sa := [vI (83 : Int32)]) (st := []) (k := 0) rfl rfl sX2_open okX2_open g_15 (one112.k g_15) rfl rfl) w (fun v_18 h_16 _ _ _ w => ?_) (fun x_48 h_49 _ _ w => ?_)
          · refine jw_ldcS (pc' := 141) rfl rfl rfl rfl ?_
            obtain ⟨g_19, w⟩ := w
            refine jw_cVH (st := []) (sa := [vR 2 v_18, vR 51 (jcs D 8)]) okX2_string rfl rfl rfl rfl rfl (jstp_virtual (sa := [vR 51 (jcs D 8)]) (st := []) (k := 0) rfl rfl sX2_string okX2_string g_19 (one2.k g_19) rfl rfl) w (fun h_20 _ _ w => ?_) (fun x_45 h_46 _ _ w => ?_)
            · refine jw_aload_n (pc' := 145) rfl rfl ?_
              refine jw_getR (pc' := 148) (F := 4) (t' := 112) rfl rfl rfl rfl rfl g_2 ?_
              refine jw_ldcS (pc' := 150) rfl rfl rfl rfl ?_
              obtain ⟨g_23, w⟩ := w
              refine jw_cVH (st := []) (sa := [vR 112 (jfr h_20 4 r0), vR 51 (jcs D 9)]) okX2_string rfl rfl rfl rfl rfl (jstp_virtual (sa := [vR 51 (jcs D 9)]) (st := []) (k := 0) rfl rfl sX2_string okX2_string g_23 (one112.k g_23) rfl rfl) w (fun h_24 _ _ w => ?_) (fun x_42 h_43 _ _ w => ?_)
              · refine jw_aload_n (pc' := 154) rfl rfl ?_
                refine jw_getR (pc' := 157) (F := 4) (t' := 112) rfl rfl rfl rfl rfl g_2 ?_
                obtain ⟨g_27, w⟩ := w
                refine jw_cVH (st := []) (sa := [vR 112 (jfr h_24 4 r0)]) okX2_close rfl rfl rfl rfl rfl (jstp_virtual (sa := []) (st := []) (k := 0) rfl rfl sX2_close okX2_close g_27 (one112.k g_27) rfl rfl) w (fun h_28 _ _ w => ?_) (fun x_39 h_40 _ _ w => ?_)
                · refine jw_aload_n (pc' := 161) rfl rfl ?_
                  refine jw_iconst (pc' := 162) (x := (2 : Int32)) rfl rfl ?_
                  refine jw_putI' (pc' := 165) (F := 5) rfl rfl rfl (Or.inr rfl) (Or.inl rfl) rfl (rfl) (rfl) rfl g_2 (fun h_31 e_32 => ?_)
                  replace w := w h_31 e_32
                  refine jw_aload_n (pc' := 166) rfl rfl ?_
                  refine jw_cVH (st := []) (sa := [vR 1 r0]) okX1_ready rfl rfl rfl rfl rfl (jstp_virtual (sa := []) (st := []) (k := 0) rfl rfl sX1_ready okX1_ready g_2 (one1.k g_2) rfl rfl) w (fun h_33 _ _ w => ?_) (fun x_36 h_37 _ _ w => ?_)
                  · refine jw_goto (pc' := 182) rfl rfl ?_
                    refine jw_gen (ls' := [none, none, none, none, none]) (st' := []) (trivial) (trivial) ?_
                    exact w_X1_password_182 w
                  · obtain ⟨e_38, w⟩ := w
                    refine ⟨172, by rw [e_38]; rfl, by rw [e_38]; rfl, ?_⟩
                    rw [e_38]
                    refine jw_gen (ls' := [some (vR 1 r0), none, none, none, none]) (st' := [vR 9 x_36]) (And.intro (Or.inl rfl) (trivial)) (And.intro (Or.inl rfl) (trivial)) ?_
                    exact w_X1_password_172 w
                · obtain ⟨e_41, w⟩ := w
                  refine ⟨172, by rw [e_41]; rfl, by rw [e_41]; rfl, ?_⟩
                  rw [e_41]
                  refine jw_gen (ls' := [some (vR 1 r0), none, none, none, none]) (st' := [vR 9 x_39]) (And.intro (Or.inl rfl) (trivial)) (And.intro (Or.inl rfl) (trivial)) ?_
                  exact w_X1_password_172 w
              · obtain ⟨e_44, w⟩ := w
                refine ⟨172, by rw [e_44]; rfl, by rw [e_44]; rfl, ?_⟩
                rw [e_44]
                refine jw_gen (ls' := [some (vR 1 r0), none, none, none, none]) (st' := [vR 9 x_42]) (And.intro (Or.inl rfl) (trivial)) (And.intro (Or.inl rfl) (trivial)) ?_
                exact w_X1_password_172 w
            · obtain ⟨e_47, w⟩ := w
              refine ⟨172, by rw [e_47]; rfl, by rw [e_47]; rfl, ?_⟩
              rw [e_47]
              refine jw_gen (ls' := [some (vR 1 r0), none, none, none, none]) (st' := [vR 9 x_45]) (And.intro (Or.inl rfl) (trivial)) (And.intro (Or.inl rfl) (trivial)) ?_
              exact w_X1_password_172 w
          · obtain ⟨e_50, w⟩ := w
            refine ⟨172, by rw [e_50]; rfl, by rw [e_50]; rfl, ?_⟩
            rw [e_50]
            refine jw_gen (ls' := [some (vR 1 r0), none, none, none, none]) (st' := [vR 9 x_48]) (And.intro (Or.inl rfl) (trivial)) (And.intro (Or.inl rfl) (trivial)) ?_
            exact w_X1_password_172 w
        · obtain ⟨e_53, w⟩ := w
          refine ⟨172, by rw [e_53]; rfl, by rw [e_53]; rfl, ?_⟩
          rw [e_53]
          refine jw_gen (ls' := [some (vR 1 r0), none, none, none, none]) (st' := [vR 9 x_51]) (And.intro (Or.inl rfl) (trivial)) (And.intro (Or.inl rfl) (trivial)) ?_
          exact w_X1_password_172 w
      · obtain ⟨e_56, w⟩ := w
        refine ⟨172, by rw [e_56]; rfl, by rw [e_56]; rfl, ?_⟩
        rw [e_56]
        refine jw_gen (ls' := [some (vR 1 r0), none, none, none, none]) (st' := [vR 9 x_54]) (And.intro (Or.inl rfl) (trivial)) (And.intro (Or.inl rfl) (trivial)) ?_
        exact w_X1_password_172 w
    · obtain ⟨e_59, w⟩ := w
      refine ⟨172, by rw [e_59]; rfl, by rw [e_59]; rfl, ?_⟩
      rw [e_59]
      refine jw_gen (ls' := [some (vR 1 r0), none, none, none, none]) (st' := [vR 9 x_57]) (And.intro (Or.inl rfl) (trivial)) (And.intro (Or.inl rfl) (trivial)) ?_
      exact w_X1_password_172 w
  · replace w := w.2 c_1
    refine jw_ldcS (pc' := 105) rfl rfl rfl rfl ?_
    refine jw_cRH (st := []) (sa := [vR 51 (jcs D 7)]) okX1_fault rfl rfl rfl rfl rfl (jstp_static (sa := [vR 51 (jcs D 7)]) (st := []) rfl rfl sX1_fault okX1_fault rfl rfl) w (fun v_62 h_60 _ _ _ w => ?_) (fun x_65 h_66 _ _ w => ?_)
    · obtain ⟨g_63, w⟩ := w
      obtain ⟨e_64, w⟩ := w
      refine jw_athrowC rfl g_63 (by rw [e_64]; rfl) (by rw [e_64]; rfl) (hp := 172) ?_
      rw [e_64]
      refine jw_gen (ls' := [some (vR 1 r0), none, none, none, none]) (st' := [vR 9 v_62]) (And.intro (Or.inl rfl) (trivial)) (And.intro (Or.inl rfl) (trivial)) ?_
      exact w_X1_password_172 w
    · obtain ⟨e_67, w⟩ := w
      refine ⟨172, by rw [e_67]; rfl, by rw [e_67]; rfl, ?_⟩
      rw [e_67]
      refine jw_gen (ls' := [some (vR 1 r0), none, none, none, none]) (st' := [vR 9 x_65]) (And.intro (Or.inl rfl) (trivial)) (And.intro (Or.inl rfl) (trivial)) ?_
      exact w_X1_password_172 w
def W_X1_password_92 (D : JD) (d : Nat) (Q : JO → JH → Prop) (K43 : Nat → Nat → Int32 → Int32 → JH → Prop) (r0 : Nat) (r2 : Nat) (x4 : Int32) (s0 : Int32) (h : JH) : Prop :=
  K43 r0 r2 s0 (x4 + (1 : Int32)) h
theorem w_X1_password_92 {D : JD} {d : Nat} {Q : JO → JH → Prop} {K43 : Nat → Nat → Int32 → Int32 → JH → Prop} {r0 : Nat} {r2 : Nat} {x4 : Int32} {s0 : Int32} {h : JH} (hK43 : ∀ (r0 : Nat) (r2 : Nat) (x3 : Int32) (x4 : Int32) (h : JH), K43 r0 r2 x3 x4 h → JW D (d + 1) mX1_password 43 [some (vR 1 r0), none, some (vR 64 r2), some (vI x3), some (vI x4)] [] h Q) (w : W_X1_password_92 D d Q K43 r0 r2 x4 s0 h) : JW D (d + 1) mX1_password 92 [some (vR 1 r0), none, some (vR 64 r2), none, some (vI x4)] [vI s0] h Q := by
  unfold W_X1_password_92 at w
  refine jw_istore_n (pc' := 93) (ls' := [some (vR 1 r0), none, some (vR 64 r2), some (vI s0), some (vI x4)]) rfl (by decide) rfl ?_
  refine jw_iinc (pc' := 96) (y := x4 + (1 : Int32)) (ls' := [some (vR 1 r0), none, some (vR 64 r2), some (vI s0), some (vI (x4 + (1 : Int32)))]) rfl (by decide) rfl rfl rfl ?_
  refine jw_goto (pc' := 43) rfl rfl ?_
  exact hK43 _ _ _ _ _ w
def W_X1_password_43 (D : JD) (d : Nat) (Q : JO → JH → Prop) (K43 : Nat → Nat → Int32 → Int32 → JH → Prop) (r0 : Nat) (r2 : Nat) (x3 : Int32) (x4 : Int32) (h : JH) : Prop :=
  r0 ≠ 0 ∧ ((jfr h 6 r0) ≠ 0 ∧ (cJ5_length D d (jfr h 6 r0) h (pI D h (fun v_5 h_3 => (v_5 ≤ x4 → W_X1_password_99 D d Q r0 x3 h_3) ∧ (¬ v_5 ≤ x4 → (x3 = 0 → W_X1_password_99 D d Q r0 x3 h_3) ∧ (¬ x3 = 0 → r2 ≠ 0 ∧ (cJ5_charAt D d r2 x4 h_3 (pI D h_3 (fun v_11 h_9 => (jfr h_9 6 r0) ≠ 0 ∧ (cJ5_length D d (jfr h_9 6 r0) h_9 (pI D h_9 (fun v_15 h_13 => cJ5_charAt D d (jfr h_9 6 r0) ((v_15 - (1 : Int32)) - x4) h_13 (pI D h_13 (fun v_18 h_16 => (¬ v_11 = v_18 → W_X1_password_92 D d Q K43 r0 r2 x4 (0 : Int32) h_16) ∧ (v_11 = v_18 → W_X1_password_92 D d Q K43 r0 r2 x4 (1 : Int32) h_16)) (fun x_20 h_21 => (jkd h_21 x_20 = 9 ∧ W_X1_password_172 D d Q r0 x_20 h_21)))) (fun x_23 h_24 => (jkd h_24 x_23 = 9 ∧ W_X1_password_172 D d Q r0 x_23 h_24))))) (fun x_26 h_27 => (jkd h_27 x_26 = 9 ∧ W_X1_password_172 D d Q r0 x_26 h_27))))))) (fun x_29 h_30 => (jkd h_30 x_29 = 9 ∧ W_X1_password_172 D d Q r0 x_29 h_30)))))
theorem w_X1_password_43 {D : JD} {d : Nat} {Q : JO → JH → Prop} {K43 : Nat → Nat → Int32 → Int32 → JH → Prop} {r0 : Nat} {r2 : Nat} {x3 : Int32} {x4 : Int32} {h : JH} (hK43 : ∀ (r0 : Nat) (r2 : Nat) (x3 : Int32) (x4 : Int32) (h : JH), K43 r0 r2 x3 x4 h → JW D (d + 1) mX1_password 43 [some (vR 1 r0), none, some (vR 64 r2), some (vI x3), some (vI x4)] [] h Q) (w : W_X1_password_43 D d Q K43 r0 r2 x3 x4 h) : JW D (d + 1) mX1_password 43 [some (vR 1 r0), none, some (vR 64 r2), some (vI x3), some (vI x4)] [] h Q := by
  unfold W_X1_password_43 at w
  refine jw_iload (pc' := 45) rfl rfl ?_
  refine jw_aload_n (pc' := 46) rfl rfl ?_
  obtain ⟨g_1, w⟩ := w
  refine jw_getR (pc' := 49) (F := 6) (t' := 64) rfl rfl rfl rfl rfl g_1 ?_
  obtain ⟨g_2, w⟩ := w
  refine jw_cIH (st := [vI x4]) (sa := [vR 64 (jfr h 6 r0)]) okJ5_length rfl rfl rfl rfl rfl (jstp_virtual (sa := []) (st := [vI x4]) (k := 0) rfl rfl sJ5_length okJ5_length g_2 (one64.k g_2) rfl rfl) w (fun v_5 h_3 _ _ w => ?_) (fun x_29 h_30 _ _ w => ?_)
  · refine jw_icmp_ge (tgt := 99) (pc' := 55) rfl rfl (fun c_6 => ?_) (fun c_6 => ?_)
    · replace w := w.1 c_6
      refine jw_gen (ls' := [some (vR 1 r0), none, none, some (vI x3), none]) (st' := []) (And.intro (Or.inl rfl) (And.intro (Or.inl rfl) (trivial))) (trivial) ?_
      exact w_X1_password_99 w
    · replace w := w.2 c_6
      refine jw_iload_n (pc' := 56) rfl rfl ?_
      refine jw_if_eq (tgt := 99) (pc' := 59) rfl rfl (fun c_7 => ?_) (fun c_7 => ?_)
      · replace w := w.1 c_7
        refine jw_gen (ls' := [some (vR 1 r0), none, none, some (vI x3), none]) (st' := []) (And.intro (Or.inl rfl) (And.intro (Or.inl rfl) (trivial))) (trivial) ?_
        exact w_X1_password_99 w
      · replace w := w.2 c_7
        refine jw_aload_n (pc' := 60) rfl rfl ?_
        refine jw_iload (pc' := 62) rfl rfl ?_
        obtain ⟨g_8, w⟩ := w
        refine jw_cIH (st := []) (sa := [vR 64 r2, vI x4]) okJ5_charAt rfl rfl rfl rfl rfl (jstp_virtual (sa := [vI x4]) (st := []) (k := 0) rfl rfl sJ5_charAt okJ5_charAt g_8 (one64.k g_8) rfl rfl) w (fun v_11 h_9 _ _ w => ?_) (fun x_26 h_27 _ _ w => ?_)
        · refine jw_aload_n (pc' := 66) rfl rfl ?_
          refine jw_getR (pc' := 69) (F := 6) (t' := 64) rfl rfl rfl rfl rfl g_1 ?_
          refine jw_aload_n (pc' := 70) rfl rfl ?_
          refine jw_getR (pc' := 73) (F := 6) (t' := 64) rfl rfl rfl rfl rfl g_1 ?_
          obtain ⟨g_12, w⟩ := w
          refine jw_cIH (st := [vR 64 (jfr h_9 6 r0), vI v_11]) (sa := [vR 64 (jfr h_9 6 r0)]) okJ5_length rfl rfl rfl rfl rfl (jstp_virtual (sa := []) (st := [vR 64 (jfr h_9 6 r0), vI v_11]) (k := 0) rfl rfl sJ5_length okJ5_length g_12 (one64.k g_12) rfl rfl) w (fun v_15 h_13 _ _ w => ?_) (fun x_23 h_24 _ _ w => ?_)
          · refine jw_iconst (pc' := 77) (x := (1 : Int32)) rfl rfl ?_
            refine jw_isub (pc' := 78) rfl ?_
            refine jw_iload (pc' := 80) rfl rfl ?_
            refine jw_isub (pc' := 81) rfl ?_
            refine jw_cIH (st := [vI v_11]) (sa := [vR 64 (jfr h_9 6 r0), vI ((v_15 - (1 : Int32)) - x4)]) okJ5_charAt rfl rfl rfl rfl rfl (jstp_virtual (sa := [vI ((v_15 - (1 : Int32)) - x4)]) (st := [vI v_11]) (k := 0) rfl rfl sJ5_charAt okJ5_charAt g_12 (one64.k g_12) rfl rfl) w (fun v_18 h_16 _ _ w => ?_) (fun x_20 h_21 _ _ w => ?_)
            · refine jw_icmp_ne (tgt := 91) (pc' := 87) rfl rfl (fun c_19 => ?_) (fun c_19 => ?_)
              · replace w := w.1 c_19
                refine jw_iconst (pc' := 92) (x := (0 : Int32)) rfl rfl ?_
                refine jw_gen (ls' := [some (vR 1 r0), none, some (vR 64 r2), none, some (vI x4)]) (st' := [vI (0 : Int32)]) (And.intro (Or.inl rfl) (And.intro (Or.inl rfl) (And.intro (Or.inl rfl) (trivial)))) (And.intro (Or.inl rfl) (trivial)) ?_
                exact w_X1_password_92 hK43 w
              · replace w := w.2 c_19
                refine jw_iconst (pc' := 88) (x := (1 : Int32)) rfl rfl ?_
                refine jw_goto (pc' := 92) rfl rfl ?_
                refine jw_gen (ls' := [some (vR 1 r0), none, some (vR 64 r2), none, some (vI x4)]) (st' := [vI (1 : Int32)]) (And.intro (Or.inl rfl) (And.intro (Or.inl rfl) (And.intro (Or.inl rfl) (trivial)))) (And.intro (Or.inl rfl) (trivial)) ?_
                exact w_X1_password_92 hK43 w
            · obtain ⟨e_22, w⟩ := w
              refine ⟨172, by rw [e_22]; rfl, by rw [e_22]; rfl, ?_⟩
              rw [e_22]
              refine jw_gen (ls' := [some (vR 1 r0), none, none, none, none]) (st' := [vR 9 x_20]) (And.intro (Or.inl rfl) (trivial)) (And.intro (Or.inl rfl) (trivial)) ?_
              exact w_X1_password_172 w
          · obtain ⟨e_25, w⟩ := w
            refine ⟨172, by rw [e_25]; rfl, by rw [e_25]; rfl, ?_⟩
            rw [e_25]
            refine jw_gen (ls' := [some (vR 1 r0), none, none, none, none]) (st' := [vR 9 x_23]) (And.intro (Or.inl rfl) (trivial)) (And.intro (Or.inl rfl) (trivial)) ?_
            exact w_X1_password_172 w
        · obtain ⟨e_28, w⟩ := w
          refine ⟨172, by rw [e_28]; rfl, by rw [e_28]; rfl, ?_⟩
          rw [e_28]
          refine jw_gen (ls' := [some (vR 1 r0), none, none, none, none]) (st' := [vR 9 x_26]) (And.intro (Or.inl rfl) (trivial)) (And.intro (Or.inl rfl) (trivial)) ?_
          exact w_X1_password_172 w
  · obtain ⟨e_31, w⟩ := w
    refine ⟨172, by rw [e_31]; rfl, by rw [e_31]; rfl, ?_⟩
    rw [e_31]
    refine jw_gen (ls' := [some (vR 1 r0), none, none, none, none]) (st' := [vR 9 x_29]) (And.intro (Or.inl rfl) (trivial)) (And.intro (Or.inl rfl) (trivial)) ?_
    exact w_X1_password_172 w
def L_X1_password_43 (D : JD) (d : Nat) (Q : JO → JH → Prop) : Nat → Nat → Nat → Int32 → Int32 → JH → Prop
  | 0 => fun _ _ _ _ _ => False
  | n + 1 => fun r0 r2 x3 x4 h => W_X1_password_43 D d Q (L_X1_password_43 D d Q n) r0 r2 x3 x4 h
theorem l_X1_password_43 {D : JD} {d : Nat} {Q : JO → JH → Prop} : ∀ (n : Nat) (r0 : Nat) (r2 : Nat) (x3 : Int32) (x4 : Int32) (h : JH), L_X1_password_43 D d Q n r0 r2 x3 x4 h → JW D (d + 1) mX1_password 43 [some (vR 1 r0), none, some (vR 64 r2), some (vI x3), some (vI x4)] [] h Q := by
  intro n
  induction n with
  | zero => intro _ _ _ _ _ w; exact w.elim
  | succ n ih => intro _ _ _ _ h w; exact w_X1_password_43 ih w
def W_X1_password_39 (D : JD) (d : Nat) (Q : JO → JH → Prop) (r0 : Nat) (r2 : Nat) (s0 : Int32) (h : JH) : Prop :=
  ∃ n, L_X1_password_43 D d Q n r0 r2 s0 (0 : Int32) h
theorem w_X1_password_39 {D : JD} {d : Nat} {Q : JO → JH → Prop} {r0 : Nat} {r2 : Nat} {s0 : Int32} {h : JH} (w : W_X1_password_39 D d Q r0 r2 s0 h) : JW D (d + 1) mX1_password 39 [some (vR 1 r0), none, some (vR 64 r2), none, none] [vI s0] h Q := by
  unfold W_X1_password_39 at w
  refine jw_istore_n (pc' := 40) (ls' := [some (vR 1 r0), none, some (vR 64 r2), some (vI s0), none]) rfl (by decide) rfl ?_
  refine jw_iconst (pc' := 41) (x := (0 : Int32)) rfl rfl ?_
  refine jw_istore (pc' := 43) (ls' := [some (vR 1 r0), none, some (vR 64 r2), some (vI s0), some (vI (0 : Int32))]) rfl (by decide) rfl ?_
  obtain ⟨n, w⟩ := w
  exact l_X1_password_43 n _ _ _ _ _ w
def W_X1_password_0 (D : JD) (d : Nat) (Q : JO → JH → Prop) (r0 : Nat) (x1 : Int32) (h : JH) : Prop :=
  (x1 = (112 : Int32) → r0 ≠ 0 ∧ (cX1_string D d r0 h (pR D h 64 (fun v_5 h_3 => cX1_all D d r0 h_3 (pV D h_3 (fun h_6 => v_5 ≠ 0 ∧ (cJ5_length D d v_5 h_6 (pI D h_6 (fun v_12 h_10 => (jfr h_10 6 r0) ≠ 0 ∧ (cJ5_length D d (jfr h_10 6 r0) h_10 (pI D h_10 (fun v_16 h_14 => (¬ v_12 = v_16 → W_X1_password_39 D d Q r0 v_5 (0 : Int32) h_14) ∧ (v_12 = v_16 → W_X1_password_39 D d Q r0 v_5 (1 : Int32) h_14)) (fun x_18 h_19 => (jkd h_19 x_18 = 9 ∧ W_X1_password_172 D d Q r0 x_18 h_19))))) (fun x_21 h_22 => (jkd h_22 x_21 = 9 ∧ W_X1_password_172 D d Q r0 x_21 h_22))))) (fun x_24 h_25 => (jkd h_25 x_24 = 9 ∧ W_X1_password_172 D d Q r0 x_24 h_25)))) (fun x_27 h_28 => (jkd h_28 x_27 = 9 ∧ W_X1_password_172 D d Q r0 x_27 h_28))))) ∧ (¬ x1 = (112 : Int32) → r0 ≠ 0 ∧ (cX1_protocol D d r0 h (pR D h 9 (fun v_33 h_31 => v_33 ≠ 0 ∧ ((jkd h_31 v_33 = 9 ∧ W_X1_password_172 D d Q r0 v_33 h_31))) (fun x_36 h_37 => (jkd h_37 x_36 = 9 ∧ W_X1_password_172 D d Q r0 x_36 h_37)))))
theorem w_X1_password_0 {D : JD} {d : Nat} {Q : JO → JH → Prop} {r0 : Nat} {x1 : Int32} {h : JH} (w : W_X1_password_0 D d Q r0 x1 h) : JW D (d + 1) mX1_password 0 [some (vR 1 r0), some (vI x1), none, none, none] [] h Q := by
  unfold W_X1_password_0 at w
  refine jw_iload_n (pc' := 1) rfl rfl ?_
  refine jw_bipush (pc' := 3) (x := (112 : Int32)) rfl rfl ?_
  refine jw_icmp_eq (tgt := 11) (pc' := 6) rfl rfl (fun c_1 => ?_) (fun c_1 => ?_)
  · replace w := w.1 c_1
    refine jw_aload_n (pc' := 12) rfl rfl ?_
    obtain ⟨g_2, w⟩ := w
    refine jw_cRH (st := []) (sa := [vR 1 r0]) okX1_string rfl rfl rfl rfl rfl (jstp_virtual (sa := []) (st := []) (k := 0) rfl rfl sX1_string okX1_string g_2 (one1.k g_2) rfl rfl) w (fun v_5 h_3 _ _ _ w => ?_) (fun x_27 h_28 _ _ w => ?_)
    · refine jw_astore_n (pc' := 16) (ls' := [some (vR 1 r0), some (vI x1), some (vR 64 v_5), none, none]) rfl (by decide) rfl ?_
      refine jw_aload_n (pc' := 17) rfl rfl ?_
      refine jw_cVH (st := []) (sa := [vR 1 r0]) okX1_all rfl rfl rfl rfl rfl (jstp_virtual (sa := []) (st := []) (k := 0) rfl rfl sX1_all okX1_all g_2 (one1.k g_2) rfl rfl) w (fun h_6 _ _ w => ?_) (fun x_24 h_25 _ _ w => ?_)
      · refine jw_aload_n (pc' := 21) rfl rfl ?_
        obtain ⟨g_9, w⟩ := w
        refine jw_cIH (st := []) (sa := [vR 64 v_5]) okJ5_length rfl rfl rfl rfl rfl (jstp_virtual (sa := []) (st := []) (k := 0) rfl rfl sJ5_length okJ5_length g_9 (one64.k g_9) rfl rfl) w (fun v_12 h_10 _ _ w => ?_) (fun x_21 h_22 _ _ w => ?_)
        · refine jw_aload_n (pc' := 25) rfl rfl ?_
          refine jw_getR (pc' := 28) (F := 6) (t' := 64) rfl rfl rfl rfl rfl g_2 ?_
          obtain ⟨g_13, w⟩ := w
          refine jw_cIH (st := [vI v_12]) (sa := [vR 64 (jfr h_10 6 r0)]) okJ5_length rfl rfl rfl rfl rfl (jstp_virtual (sa := []) (st := [vI v_12]) (k := 0) rfl rfl sJ5_length okJ5_length g_13 (one64.k g_13) rfl rfl) w (fun v_16 h_14 _ _ w => ?_) (fun x_18 h_19 _ _ w => ?_)
          · refine jw_icmp_ne (tgt := 38) (pc' := 34) rfl rfl (fun c_17 => ?_) (fun c_17 => ?_)
            · replace w := w.1 c_17
              refine jw_iconst (pc' := 39) (x := (0 : Int32)) rfl rfl ?_
              refine jw_gen (ls' := [some (vR 1 r0), none, some (vR 64 v_5), none, none]) (st' := [vI (0 : Int32)]) (And.intro (Or.inl rfl) (And.intro (Or.inl rfl) (trivial))) (And.intro (Or.inl rfl) (trivial)) ?_
              exact w_X1_password_39 w
            · replace w := w.2 c_17
              refine jw_iconst (pc' := 35) (x := (1 : Int32)) rfl rfl ?_
              refine jw_goto (pc' := 39) rfl rfl ?_
              refine jw_gen (ls' := [some (vR 1 r0), none, some (vR 64 v_5), none, none]) (st' := [vI (1 : Int32)]) (And.intro (Or.inl rfl) (And.intro (Or.inl rfl) (trivial))) (And.intro (Or.inl rfl) (trivial)) ?_
              exact w_X1_password_39 w
          · obtain ⟨e_20, w⟩ := w
            refine ⟨172, by rw [e_20]; rfl, by rw [e_20]; rfl, ?_⟩
            rw [e_20]
            refine jw_gen (ls' := [some (vR 1 r0), none, none, none, none]) (st' := [vR 9 x_18]) (And.intro (Or.inl rfl) (trivial)) (And.intro (Or.inl rfl) (trivial)) ?_
            exact w_X1_password_172 w
        · obtain ⟨e_23, w⟩ := w
          refine ⟨172, by rw [e_23]; rfl, by rw [e_23]; rfl, ?_⟩
          rw [e_23]
          refine jw_gen (ls' := [some (vR 1 r0), none, none, none, none]) (st' := [vR 9 x_21]) (And.intro (Or.inl rfl) (trivial)) (And.intro (Or.inl rfl) (trivial)) ?_
          exact w_X1_password_172 w
      · obtain ⟨e_26, w⟩ := w
        refine ⟨172, by rw [e_26]; rfl, by rw [e_26]; rfl, ?_⟩
        rw [e_26]
        refine jw_gen (ls' := [some (vR 1 r0), none, none, none, none]) (st' := [vR 9 x_24]) (And.intro (Or.inl rfl) (trivial)) (And.intro (Or.inl rfl) (trivial)) ?_
        exact w_X1_password_172 w
    · obtain ⟨e_29, w⟩ := w
      refine ⟨172, by rw [e_29]; rfl, by rw [e_29]; rfl, ?_⟩
      rw [e_29]
      refine jw_gen (ls' := [some (vR 1 r0), none, none, none, none]) (st' := [vR 9 x_27]) (And.intro (Or.inl rfl) (trivial)) (And.intro (Or.inl rfl) (trivial)) ?_
      exact w_X1_password_172 w
  · replace w := w.2 c_1
    refine jw_aload_n (pc' := 7) rfl rfl ?_
    obtain ⟨g_30, w⟩ := w
    refine jw_cRH (st := []) (sa := [vR 1 r0]) okX1_protocol rfl rfl rfl rfl rfl (jstp_virtual (sa := []) (st := []) (k := 0) rfl rfl sX1_protocol okX1_protocol g_30 (one1.k g_30) rfl rfl) w (fun v_33 h_31 _ _ _ w => ?_) (fun x_36 h_37 _ _ w => ?_)
    · obtain ⟨g_34, w⟩ := w
      obtain ⟨e_35, w⟩ := w
      refine jw_athrowC rfl g_34 (by rw [e_35]; rfl) (by rw [e_35]; rfl) (hp := 172) ?_
      rw [e_35]
      refine jw_gen (ls' := [some (vR 1 r0), none, none, none, none]) (st' := [vR 9 v_33]) (And.intro (Or.inl rfl) (trivial)) (And.intro (Or.inl rfl) (trivial)) ?_
      exact w_X1_password_172 w
    · obtain ⟨e_38, w⟩ := w
      refine ⟨172, by rw [e_38]; rfl, by rw [e_38]; rfl, ?_⟩
      rw [e_38]
      refine jw_gen (ls' := [some (vR 1 r0), none, none, none, none]) (st' := [vR 9 x_36]) (And.intro (Or.inl rfl) (trivial)) (And.intro (Or.inl rfl) (trivial)) ?_
      exact w_X1_password_172 w
def T_X1_password (D : JD) (d : Nat) (Q : JO → JH → Prop) (r0 : Nat) (x1 : Int32) (h : JH) : Prop := W_X1_password_0 D d Q r0 x1 h
theorem t_X1_password {D : JD} {d : Nat} {Q : JO → JH → Prop} {r0 : Nat} {x1 : Int32} {h : JH} (w : T_X1_password D d Q r0 x1 h) : cX1_password D (d + 1) r0 x1 h Q := by
  unfold T_X1_password at w
  unfold cX1_password
  exact w_X1_password_0 w
def W_X1_ready_0 (D : JD) (d : Nat) (Q : JO → JH → Prop) (r0 : Nat) (h : JH) : Prop :=
  r0 ≠ 0 ∧ ((jfr h 4 r0) ≠ 0 ∧ (cX2_open D d (jfr h 4 r0) (90 : Int32) h (pR D h 2 (fun v_5 h_3 => (jfr h_3 7 r0) ≠ 0 ∧ (cX3_status D d (jfr h_3 7 r0) h_3 (pI D h_3 (fun v_9 h_7 => v_5 ≠ 0 ∧ (cX2_put D d v_5 v_9 h_7 (pV D h_7 (fun h_11 => (jfr h_11 4 r0) ≠ 0 ∧ (cX2_close D d (jfr h_11 4 r0) h_11 (pV D h_11 (fun h_15 => Q (.inl none) h_15) (jth Q)))) (jth Q)))) (jth Q)))) (jth Q))))
theorem w_X1_ready_0 {D : JD} {d : Nat} {Q : JO → JH → Prop} {r0 : Nat} {h : JH} (w : W_X1_ready_0 D d Q r0 h) : JW D (d + 1) mX1_ready 0 [some (vR 1 r0)] [] h Q := by
  unfold W_X1_ready_0 at w
  refine jw_aload_n (pc' := 1) rfl rfl ?_
  obtain ⟨g_1, w⟩ := w
  refine jw_getR (pc' := 4) (F := 4) (t' := 112) rfl rfl rfl rfl rfl g_1 ?_
  refine jw_bipush (pc' := 6) (x := (90 : Int32)) rfl rfl ?_
  obtain ⟨g_2, w⟩ := w
  refine jw_cR (st := []) (sa := [vR 112 (jfr h 4 r0), vI (90 : Int32)]) okX2_open rfl rfl rfl rfl rfl rfl (jstp_virtual (sa := [vI (90 : Int32)]) (st := []) (k := 0) rfl rfl sX2_open okX2_open g_2 (one112.k g_2) rfl rfl) w (fun v_5 h_3 _ _ _ w => ?_)
  refine jw_aload_n (pc' := 10) rfl rfl ?_
  refine jw_getR (pc' := 13) (F := 7) (t' := 3) rfl rfl rfl rfl rfl g_1 ?_
  obtain ⟨g_6, w⟩ := w
  refine jw_cI (st := [vR 2 v_5]) (sa := [vR 3 (jfr h_3 7 r0)]) okX3_status rfl rfl rfl rfl rfl rfl (jstp_virtual (sa := []) (st := [vR 2 v_5]) (k := 0) rfl rfl sX3_status okX3_status g_6 (one3.k g_6) rfl rfl) w (fun v_9 h_7 _ _ w => ?_)
  obtain ⟨g_10, w⟩ := w
  refine jw_cV (st := []) (sa := [vR 2 v_5, vI v_9]) okX2_put rfl rfl rfl rfl rfl rfl (jstp_virtual (sa := [vI v_9]) (st := []) (k := 0) rfl rfl sX2_put okX2_put g_10 (one2.k g_10) rfl rfl) w (fun h_11 _ _ w => ?_)
  refine jw_aload_n (pc' := 20) rfl rfl ?_
  refine jw_getR (pc' := 23) (F := 4) (t' := 112) rfl rfl rfl rfl rfl g_1 ?_
  obtain ⟨g_14, w⟩ := w
  refine jw_cV (st := []) (sa := [vR 112 (jfr h_11 4 r0)]) okX2_close rfl rfl rfl rfl rfl rfl (jstp_virtual (sa := []) (st := []) (k := 0) rfl rfl sX2_close okX2_close g_14 (one112.k g_14) rfl rfl) w (fun h_15 _ _ w => ?_)
  exact jw_return rfl rfl w
def T_X1_ready (D : JD) (d : Nat) (Q : JO → JH → Prop) (r0 : Nat) (h : JH) : Prop := W_X1_ready_0 D d Q r0 h
theorem t_X1_ready {D : JD} {d : Nat} {Q : JO → JH → Prop} {r0 : Nat} {h : JH} (w : T_X1_ready D d Q r0 h) : cX1_ready D (d + 1) r0 h Q := by
  unfold T_X1_ready at w
  unfold cX1_ready
  exact w_X1_ready_0 w
def W_X1_message_182 (D : JD) (d : Nat) (Q : JO → JH → Prop) (r0 : Nat) (q0 : Nat) (h : JH) : Prop :=
  r0 ≠ 0 ∧ (cX1_error D d r0 q0 h (pV D h (fun h_2 => (jfr h_2 7 r0) ≠ 0 ∧ (cX3_failed D d (jfr h_2 7 r0) h_2 (pV D h_2 (fun h_6 => ∀ h_9 : JH, h_9 = wfi h_6 12 r0 (1 : Int32) → (Q (.inl none) h_9)) (jth Q)))) (jth Q)))
theorem w_X1_message_182 {D : JD} {d : Nat} {Q : JO → JH → Prop} {r0 : Nat} {q0 : Nat} {h : JH} (w : W_X1_message_182 D d Q r0 q0 h) : JW D (d + 1) mX1_message 182 [some (vR 1 r0), none, none] [vR 9 q0] h Q := by
  unfold W_X1_message_182 at w
  refine jw_astore_n (pc' := 183) (ls' := [some (vR 1 r0), none, some (vR 9 q0)]) rfl (by decide) rfl ?_
  refine jw_aload_n (pc' := 184) rfl rfl ?_
  refine jw_aload_n (pc' := 185) rfl rfl ?_
  obtain ⟨g_1, w⟩ := w
  refine jw_cV (st := []) (sa := [vR 1 r0, vR 9 q0]) okX1_error rfl rfl rfl rfl rfl rfl (jstp_virtual (sa := [vR 9 q0]) (st := []) (k := 0) rfl rfl sX1_error okX1_error g_1 (one1.k g_1) rfl rfl) w (fun h_2 _ _ w => ?_)
  refine jw_aload_n (pc' := 189) rfl rfl ?_
  refine jw_getR (pc' := 192) (F := 7) (t' := 3) rfl rfl rfl rfl rfl g_1 ?_
  obtain ⟨g_5, w⟩ := w
  refine jw_cV (st := []) (sa := [vR 3 (jfr h_2 7 r0)]) okX3_failed rfl rfl rfl rfl rfl rfl (jstp_virtual (sa := []) (st := []) (k := 0) rfl rfl sX3_failed okX3_failed g_5 (one3.k g_5) rfl rfl) w (fun h_6 _ _ w => ?_)
  refine jw_aload_n (pc' := 196) rfl rfl ?_
  refine jw_iconst (pc' := 197) (x := (1 : Int32)) rfl rfl ?_
  refine jw_putI' (pc' := 200) (F := 12) rfl rfl rfl (Or.inr rfl) (Or.inl rfl) rfl (rfl) (rfl) rfl g_1 (fun h_9 e_10 => ?_)
  replace w := w h_9 e_10
  exact jw_return rfl rfl w
def W_X1_message_20 (D : JD) (d : Nat) (Q : JO → JH → Prop) (r0 : Nat) (x1 : Int32) (h : JH) : Prop :=
  (x1 = (66 : Int32) → r0 ≠ 0 ∧ (cX1_bind D d r0 h (pV D h (fun h_3 => Q (.inl none) h_3) (fun x_6 h_7 => (jkd h_7 x_6 = 9 ∧ W_X1_message_182 D d Q r0 x_6 h_7))))) ∧ (x1 = (67 : Int32) → r0 ≠ 0 ∧ (cX1_drop D d r0 h (pV D h (fun h_11 => Q (.inl none) h_11) (fun x_14 h_15 => (jkd h_15 x_14 = 9 ∧ W_X1_message_182 D d Q r0 x_14 h_15))))) ∧ (x1 = (68 : Int32) → r0 ≠ 0 ∧ (cX1_describe D d r0 h (pV D h (fun h_19 => Q (.inl none) h_19) (fun x_22 h_23 => (jkd h_23 x_22 = 9 ∧ W_X1_message_182 D d Q r0 x_22 h_23))))) ∧ (x1 = (69 : Int32) → r0 ≠ 0 ∧ (cX1_execute D d r0 h (pV D h (fun h_27 => Q (.inl none) h_27) (fun x_30 h_31 => (jkd h_31 x_30 = 9 ∧ W_X1_message_182 D d Q r0 x_30 h_31))))) ∧ (x1 = (72 : Int32) → r0 ≠ 0 ∧ (cX1_all D d r0 h (pV D h (fun h_35 => Q (.inl none) h_35) (fun x_38 h_39 => (jkd h_39 x_38 = 9 ∧ W_X1_message_182 D d Q r0 x_38 h_39))))) ∧ (x1 = (80 : Int32) → r0 ≠ 0 ∧ (cX1_parse D d r0 h (pV D h (fun h_43 => Q (.inl none) h_43) (fun x_46 h_47 => (jkd h_47 x_46 = 9 ∧ W_X1_message_182 D d Q r0 x_46 h_47))))) ∧ (x1 = (81 : Int32) → r0 ≠ 0 ∧ (cX1_query D d r0 h (pV D h (fun h_51 => Q (.inl none) h_51) (fun x_54 h_55 => (jkd h_55 x_54 = 9 ∧ W_X1_message_182 D d Q r0 x_54 h_55))))) ∧ (x1 = (83 : Int32) → r0 ≠ 0 ∧ (cX1_sync D d r0 h (pV D h (fun h_59 => Q (.inl none) h_59) (fun x_62 h_63 => (jkd h_63 x_62 = 9 ∧ W_X1_message_182 D d Q r0 x_62 h_63))))) ∧ (x1 = (88 : Int32) → r0 ≠ 0 ∧ (cX1_all D d r0 h (pV D h (fun h_67 => cX1_close D d r0 h_67 (pV D h_67 (fun h_70 => Q (.inl none) h_70) (fun x_73 h_74 => (jkd h_74 x_73 = 9 ∧ W_X1_message_182 D d Q r0 x_73 h_74)))) (fun x_76 h_77 => (jkd h_77 x_76 = 9 ∧ W_X1_message_182 D d Q r0 x_76 h_77))))) ∧ (¬ x1 = (66 : Int32) → ¬ x1 = (67 : Int32) → ¬ x1 = (68 : Int32) → ¬ x1 = (69 : Int32) → ¬ x1 = (72 : Int32) → ¬ x1 = (80 : Int32) → ¬ x1 = (81 : Int32) → ¬ x1 = (83 : Int32) → ¬ x1 = (88 : Int32) → r0 ≠ 0 ∧ (cX1_protocol D d r0 h (pR D h 9 (fun v_82 h_80 => v_82 ≠ 0 ∧ ((jkd h_80 v_82 = 9 ∧ W_X1_message_182 D d Q r0 v_82 h_80))) (fun x_85 h_86 => (jkd h_86 x_85 = 9 ∧ W_X1_message_182 D d Q r0 x_85 h_86)))))
theorem w_X1_message_20 {D : JD} {d : Nat} {Q : JO → JH → Prop} {r0 : Nat} {x1 : Int32} {h : JH} (w : W_X1_message_20 D d Q r0 x1 h) : JW D (d + 1) mX1_message 20 [some (vR 1 r0), some (vI x1), none] [] h Q := by
  unfold W_X1_message_20 at w
  refine jw_iload_n (pc' := 21) rfl rfl ?_
  refine jw_tsw (cs := [((66 : Int32), 138), ((67 : Int32), 153), ((68 : Int32), 143), ((69 : Int32), 148), ((72 : Int32), 158), ((80 : Int32), 133), ((81 : Int32), 128), ((83 : Int32), 163), ((88 : Int32), 168)]) (dt := 177) rfl (by decide +kernel) ?_
  by_cases c_1 : x1 = (66 : Int32)
  · rw [jsw_hit c_1]
    replace w := w.1 c_1
    refine jw_aload_n (pc' := 139) rfl rfl ?_
    obtain ⟨g_2, w⟩ := w
    refine jw_cVH (st := []) (sa := [vR 1 r0]) okX1_bind rfl rfl rfl rfl rfl (jstp_virtual (sa := []) (st := []) (k := 0) rfl rfl sX1_bind okX1_bind g_2 (one1.k g_2) rfl rfl) w (fun h_3 _ _ w => ?_) (fun x_6 h_7 _ _ w => ?_)
    · exact jw_return rfl rfl w
    · obtain ⟨e_8, w⟩ := w
      refine ⟨182, by rw [e_8]; rfl, by rw [e_8]; rfl, ?_⟩
      rw [e_8]
      refine jw_gen (ls' := [some (vR 1 r0), none, none]) (st' := [vR 9 x_6]) (And.intro (Or.inl rfl) (trivial)) (And.intro (Or.inl rfl) (trivial)) ?_
      exact w_X1_message_182 w
  · rw [jsw_miss c_1]
    replace w := w.2
    by_cases c_9 : x1 = (67 : Int32)
    · rw [jsw_hit c_9]
      replace w := w.1 c_9
      refine jw_aload_n (pc' := 154) rfl rfl ?_
      obtain ⟨g_10, w⟩ := w
      refine jw_cVH (st := []) (sa := [vR 1 r0]) okX1_drop rfl rfl rfl rfl rfl (jstp_virtual (sa := []) (st := []) (k := 0) rfl rfl sX1_drop okX1_drop g_10 (one1.k g_10) rfl rfl) w (fun h_11 _ _ w => ?_) (fun x_14 h_15 _ _ w => ?_)
      · exact jw_return rfl rfl w
      · obtain ⟨e_16, w⟩ := w
        refine ⟨182, by rw [e_16]; rfl, by rw [e_16]; rfl, ?_⟩
        rw [e_16]
        refine jw_gen (ls' := [some (vR 1 r0), none, none]) (st' := [vR 9 x_14]) (And.intro (Or.inl rfl) (trivial)) (And.intro (Or.inl rfl) (trivial)) ?_
        exact w_X1_message_182 w
    · rw [jsw_miss c_9]
      replace w := w.2
      by_cases c_17 : x1 = (68 : Int32)
      · rw [jsw_hit c_17]
        replace w := w.1 c_17
        refine jw_aload_n (pc' := 144) rfl rfl ?_
        obtain ⟨g_18, w⟩ := w
        refine jw_cVH (st := []) (sa := [vR 1 r0]) okX1_describe rfl rfl rfl rfl rfl (jstp_virtual (sa := []) (st := []) (k := 0) rfl rfl sX1_describe okX1_describe g_18 (one1.k g_18) rfl rfl) w (fun h_19 _ _ w => ?_) (fun x_22 h_23 _ _ w => ?_)
        · exact jw_return rfl rfl w
        · obtain ⟨e_24, w⟩ := w
          refine ⟨182, by rw [e_24]; rfl, by rw [e_24]; rfl, ?_⟩
          rw [e_24]
          refine jw_gen (ls' := [some (vR 1 r0), none, none]) (st' := [vR 9 x_22]) (And.intro (Or.inl rfl) (trivial)) (And.intro (Or.inl rfl) (trivial)) ?_
          exact w_X1_message_182 w
      · rw [jsw_miss c_17]
        replace w := w.2
        by_cases c_25 : x1 = (69 : Int32)
        · rw [jsw_hit c_25]
          replace w := w.1 c_25
          refine jw_aload_n (pc' := 149) rfl rfl ?_
          obtain ⟨g_26, w⟩ := w
          refine jw_cVH (st := []) (sa := [vR 1 r0]) okX1_execute rfl rfl rfl rfl rfl (jstp_virtual (sa := []) (st := []) (k := 0) rfl rfl sX1_execute okX1_execute g_26 (one1.k g_26) rfl rfl) w (fun h_27 _ _ w => ?_) (fun x_30 h_31 _ _ w => ?_)
          · exact jw_return rfl rfl w
          · obtain ⟨e_32, w⟩ := w
            refine ⟨182, by rw [e_32]; rfl, by rw [e_32]; rfl, ?_⟩
            rw [e_32]
            refine jw_gen (ls' := [some (vR 1 r0), none, none]) (st' := [vR 9 x_30]) (And.intro (Or.inl rfl) (trivial)) (And.intro (Or.inl rfl) (trivial)) ?_
            exact w_X1_message_182 w
        · rw [jsw_miss c_25]
          replace w := w.2
          by_cases c_33 : x1 = (72 : Int32)
          · rw [jsw_hit c_33]
            replace w := w.1 c_33
            refine jw_aload_n (pc' := 159) rfl rfl ?_
            obtain ⟨g_34, w⟩ := w
            refine jw_cVH (st := []) (sa := [vR 1 r0]) okX1_all rfl rfl rfl rfl rfl (jstp_virtual (sa := []) (st := []) (k := 0) rfl rfl sX1_all okX1_all g_34 (one1.k g_34) rfl rfl) w (fun h_35 _ _ w => ?_) (fun x_38 h_39 _ _ w => ?_)
            · exact jw_return rfl rfl w
            · obtain ⟨e_40, w⟩ := w
              refine ⟨182, by rw [e_40]; rfl, by rw [e_40]; rfl, ?_⟩
              rw [e_40]
              refine jw_gen (ls' := [some (vR 1 r0), none, none]) (st' := [vR 9 x_38]) (And.intro (Or.inl rfl) (trivial)) (And.intro (Or.inl rfl) (trivial)) ?_
              exact w_X1_message_182 w
          · rw [jsw_miss c_33]
            replace w := w.2
            by_cases c_41 : x1 = (80 : Int32)
            · rw [jsw_hit c_41]
              replace w := w.1 c_41
              refine jw_aload_n (pc' := 134) rfl rfl ?_
              obtain ⟨g_42, w⟩ := w
              refine jw_cVH (st := []) (sa := [vR 1 r0]) okX1_parse rfl rfl rfl rfl rfl (jstp_virtual (sa := []) (st := []) (k := 0) rfl rfl sX1_parse okX1_parse g_42 (one1.k g_42) rfl rfl) w (fun h_43 _ _ w => ?_) (fun x_46 h_47 _ _ w => ?_)
              · exact jw_return rfl rfl w
              · obtain ⟨e_48, w⟩ := w
                refine ⟨182, by rw [e_48]; rfl, by rw [e_48]; rfl, ?_⟩
                rw [e_48]
                refine jw_gen (ls' := [some (vR 1 r0), none, none]) (st' := [vR 9 x_46]) (And.intro (Or.inl rfl) (trivial)) (And.intro (Or.inl rfl) (trivial)) ?_
                exact w_X1_message_182 w
            · rw [jsw_miss c_41]
              replace w := w.2
              by_cases c_49 : x1 = (81 : Int32)
              · rw [jsw_hit c_49]
                replace w := w.1 c_49
                refine jw_aload_n (pc' := 129) rfl rfl ?_
                obtain ⟨g_50, w⟩ := w
                refine jw_cVH (st := []) (sa := [vR 1 r0]) okX1_query rfl rfl rfl rfl rfl (jstp_virtual (sa := []) (st := []) (k := 0) rfl rfl sX1_query okX1_query g_50 (one1.k g_50) rfl rfl) w (fun h_51 _ _ w => ?_) (fun x_54 h_55 _ _ w => ?_)
                · exact jw_return rfl rfl w
                · obtain ⟨e_56, w⟩ := w
                  refine ⟨182, by rw [e_56]; rfl, by rw [e_56]; rfl, ?_⟩
                  rw [e_56]
                  refine jw_gen (ls' := [some (vR 1 r0), none, none]) (st' := [vR 9 x_54]) (And.intro (Or.inl rfl) (trivial)) (And.intro (Or.inl rfl) (trivial)) ?_
                  exact w_X1_message_182 w
              · rw [jsw_miss c_49]
                replace w := w.2
                by_cases c_57 : x1 = (83 : Int32)
                · rw [jsw_hit c_57]
                  replace w := w.1 c_57
                  refine jw_aload_n (pc' := 164) rfl rfl ?_
                  obtain ⟨g_58, w⟩ := w
                  refine jw_cVH (st := []) (sa := [vR 1 r0]) okX1_sync rfl rfl rfl rfl rfl (jstp_virtual (sa := []) (st := []) (k := 0) rfl rfl sX1_sync okX1_sync g_58 (one1.k g_58) rfl rfl) w (fun h_59 _ _ w => ?_) (fun x_62 h_63 _ _ w => ?_)
                  · exact jw_return rfl rfl w
                  · obtain ⟨e_64, w⟩ := w
                    refine ⟨182, by rw [e_64]; rfl, by rw [e_64]; rfl, ?_⟩
                    rw [e_64]
                    refine jw_gen (ls' := [some (vR 1 r0), none, none]) (st' := [vR 9 x_62]) (And.intro (Or.inl rfl) (trivial)) (And.intro (Or.inl rfl) (trivial)) ?_
                    exact w_X1_message_182 w
                · rw [jsw_miss c_57]
                  replace w := w.2
                  by_cases c_65 : x1 = (88 : Int32)
                  · rw [jsw_hit c_65]
                    replace w := w.1 c_65
                    refine jw_aload_n (pc' := 169) rfl rfl ?_
                    obtain ⟨g_66, w⟩ := w
                    refine jw_cVH (st := []) (sa := [vR 1 r0]) okX1_all rfl rfl rfl rfl rfl (jstp_virtual (sa := []) (st := []) (k := 0) rfl rfl sX1_all okX1_all g_66 (one1.k g_66) rfl rfl) w (fun h_67 _ _ w => ?_) (fun x_76 h_77 _ _ w => ?_)
                    · refine jw_aload_n (pc' := 173) rfl rfl ?_
                      refine jw_cVH (st := []) (sa := [vR 1 r0]) okX1_close rfl rfl rfl rfl rfl (jstp_virtual (sa := []) (st := []) (k := 0) rfl rfl sX1_close okX1_close g_66 (one1.k g_66) rfl rfl) w (fun h_70 _ _ w => ?_) (fun x_73 h_74 _ _ w => ?_)
                      · exact jw_return rfl rfl w
                      · obtain ⟨e_75, w⟩ := w
                        refine ⟨182, by rw [e_75]; rfl, by rw [e_75]; rfl, ?_⟩
                        rw [e_75]
                        refine jw_gen (ls' := [some (vR 1 r0), none, none]) (st' := [vR 9 x_73]) (And.intro (Or.inl rfl) (trivial)) (And.intro (Or.inl rfl) (trivial)) ?_
                        exact w_X1_message_182 w
                    · obtain ⟨e_78, w⟩ := w
                      refine ⟨182, by rw [e_78]; rfl, by rw [e_78]; rfl, ?_⟩
                      rw [e_78]
                      refine jw_gen (ls' := [some (vR 1 r0), none, none]) (st' := [vR 9 x_76]) (And.intro (Or.inl rfl) (trivial)) (And.intro (Or.inl rfl) (trivial)) ?_
                      exact w_X1_message_182 w
                  · rw [jsw_miss c_65]
                    replace w := w.2
                    rw [jsw_nil]
                    replace w := w c_1 c_9 c_17 c_25 c_33 c_41 c_49 c_57 c_65
                    refine jw_aload_n (pc' := 178) rfl rfl ?_
                    obtain ⟨g_79, w⟩ := w
                    refine jw_cRH (st := []) (sa := [vR 1 r0]) okX1_protocol rfl rfl rfl rfl rfl (jstp_virtual (sa := []) (st := []) (k := 0) rfl rfl sX1_protocol okX1_protocol g_79 (one1.k g_79) rfl rfl) w (fun v_82 h_80 _ _ _ w => ?_) (fun x_85 h_86 _ _ w => ?_)
                    · obtain ⟨g_83, w⟩ := w
                      obtain ⟨e_84, w⟩ := w
                      refine jw_athrowC rfl g_83 (by rw [e_84]; rfl) (by rw [e_84]; rfl) (hp := 182) ?_
                      rw [e_84]
                      refine jw_gen (ls' := [some (vR 1 r0), none, none]) (st' := [vR 9 v_82]) (And.intro (Or.inl rfl) (trivial)) (And.intro (Or.inl rfl) (trivial)) ?_
                      exact w_X1_message_182 w
                    · obtain ⟨e_87, w⟩ := w
                      refine ⟨182, by rw [e_87]; rfl, by rw [e_87]; rfl, ?_⟩
                      rw [e_87]
                      refine jw_gen (ls' := [some (vR 1 r0), none, none]) (st' := [vR 9 x_85]) (And.intro (Or.inl rfl) (trivial)) (And.intro (Or.inl rfl) (trivial)) ?_
                      exact w_X1_message_182 w
def W_X1_message_0 (D : JD) (d : Nat) (Q : JO → JH → Prop) (r0 : Nat) (x1 : Int32) (h : JH) : Prop :=
  r0 ≠ 0 ∧ (((jfi h 12 r0) = 0 → W_X1_message_20 D d Q r0 x1 h) ∧ (¬ (jfi h 12 r0) = 0 → (x1 = (83 : Int32) → W_X1_message_20 D d Q r0 x1 h) ∧ (¬ x1 = (83 : Int32) → (x1 = (88 : Int32) → W_X1_message_20 D d Q r0 x1 h) ∧ (¬ x1 = (88 : Int32) → Q (.inl none) h))))
theorem w_X1_message_0 {D : JD} {d : Nat} {Q : JO → JH → Prop} {r0 : Nat} {x1 : Int32} {h : JH} (w : W_X1_message_0 D d Q r0 x1 h) : JW D (d + 1) mX1_message 0 [some (vR 1 r0), some (vI x1), none] [] h Q := by
  unfold W_X1_message_0 at w
  refine jw_aload_n (pc' := 1) rfl rfl ?_
  obtain ⟨g_1, w⟩ := w
  refine jw_getI (pc' := 4) (F := 12) rfl rfl rfl rfl g_1 ?_
  refine jw_if_eq (tgt := 20) (pc' := 7) rfl rfl (fun c_2 => ?_) (fun c_2 => ?_)
  · replace w := w.1 c_2
    exact w_X1_message_20 w
  · replace w := w.2 c_2
    refine jw_iload_n (pc' := 8) rfl rfl ?_
    refine jw_bipush (pc' := 10) (x := (83 : Int32)) rfl rfl ?_
    refine jw_icmp_eq (tgt := 20) (pc' := 13) rfl rfl (fun c_3 => ?_) (fun c_3 => ?_)
    · replace w := w.1 c_3
      exact w_X1_message_20 w
    · replace w := w.2 c_3
      refine jw_iload_n (pc' := 14) rfl rfl ?_
      refine jw_bipush (pc' := 16) (x := (88 : Int32)) rfl rfl ?_
      refine jw_icmp_eq (tgt := 20) (pc' := 19) rfl rfl (fun c_4 => ?_) (fun c_4 => ?_)
      · replace w := w.1 c_4
        exact w_X1_message_20 w
      · replace w := w.2 c_4
        exact jw_return rfl rfl w
def T_X1_message (D : JD) (d : Nat) (Q : JO → JH → Prop) (r0 : Nat) (x1 : Int32) (h : JH) : Prop := W_X1_message_0 D d Q r0 x1 h
theorem t_X1_message {D : JD} {d : Nat} {Q : JO → JH → Prop} {r0 : Nat} {x1 : Int32} {h : JH} (w : T_X1_message D d Q r0 x1 h) : cX1_message D (d + 1) r0 x1 h Q := by
  unfold T_X1_message at w
  unfold cX1_message
  exact w_X1_message_0 w
def W_X1_query_72 (D : JD) (d : Nat) (Q : JO → JH → Prop) (r0 : Nat) (h : JH) : Prop :=
  r0 ≠ 0 ∧ (cX1_ready D d r0 h (pV D h (fun h_2 => Q (.inl none) h_2) (jth Q)))
theorem w_X1_query_72 {D : JD} {d : Nat} {Q : JO → JH → Prop} {r0 : Nat} {h : JH} (w : W_X1_query_72 D d Q r0 h) : JW D (d + 1) mX1_query 72 [some (vR 1 r0), none, none, none] [] h Q := by
  unfold W_X1_query_72 at w
  refine jw_aload_n (pc' := 73) rfl rfl ?_
  obtain ⟨g_1, w⟩ := w
  refine jw_cV (st := []) (sa := [vR 1 r0]) okX1_ready rfl rfl rfl rfl rfl rfl (jstp_virtual (sa := []) (st := []) (k := 0) rfl rfl sX1_ready okX1_ready g_1 (one1.k g_1) rfl rfl) w (fun h_2 _ _ w => ?_)
  exact jw_return rfl rfl w
def W_X1_query_58 (D : JD) (d : Nat) (Q : JO → JH → Prop) (r0 : Nat) (h : JH) : Prop :=
  r0 ≠ 0 ∧ ((jfr h 7 r0) ≠ 0 ∧ ((¬ (jfi h 36 (jfr h 7 r0)) = 0 → W_X1_query_72 D d Q r0 h) ∧ ((jfi h 36 (jfr h 7 r0)) = 0 → cX1_dropPortals D d r0 h (pV D h (fun h_4 => W_X1_query_72 D d Q r0 h_4) (jth Q)))))
theorem w_X1_query_58 {D : JD} {d : Nat} {Q : JO → JH → Prop} {r0 : Nat} {h : JH} (w : W_X1_query_58 D d Q r0 h) : JW D (d + 1) mX1_query 58 [some (vR 1 r0), none, none, none] [] h Q := by
  unfold W_X1_query_58 at w
  refine jw_aload_n (pc' := 59) rfl rfl ?_
  obtain ⟨g_1, w⟩ := w
  refine jw_getR (pc' := 62) (F := 7) (t' := 3) rfl rfl rfl rfl rfl g_1 ?_
  obtain ⟨g_2, w⟩ := w
  refine jw_getI (pc' := 65) (F := 36) rfl rfl rfl rfl g_2 ?_
  refine jw_if_ne (tgt := 72) (pc' := 68) rfl rfl (fun c_3 => ?_) (fun c_3 => ?_)
  · replace w := w.1 c_3
    exact w_X1_query_72 w
  · replace w := w.2 c_3
    refine jw_aload_n (pc' := 69) rfl rfl ?_
    refine jw_cV (st := []) (sa := [vR 1 r0]) okX1_dropPortals rfl rfl rfl rfl rfl rfl (jstp_virtual (sa := []) (st := []) (k := 0) rfl rfl sX1_dropPortals okX1_dropPortals g_1 (one1.k g_1) rfl rfl) w (fun h_4 _ _ w => ?_)
    exact w_X1_query_72 w
def W_X1_query_45 (D : JD) (d : Nat) (Q : JO → JH → Prop) (r0 : Nat) (q0 : Nat) (h : JH) : Prop :=
  r0 ≠ 0 ∧ (cX1_error D d r0 q0 h (pV D h (fun h_2 => (jfr h_2 7 r0) ≠ 0 ∧ (cX3_failed D d (jfr h_2 7 r0) h_2 (pV D h_2 (fun h_6 => W_X1_query_58 D d Q r0 h_6) (jth Q)))) (jth Q)))
theorem w_X1_query_45 {D : JD} {d : Nat} {Q : JO → JH → Prop} {r0 : Nat} {q0 : Nat} {h : JH} (w : W_X1_query_45 D d Q r0 q0 h) : JW D (d + 1) mX1_query 45 [some (vR 1 r0), none, none, none] [vR 9 q0] h Q := by
  unfold W_X1_query_45 at w
  refine jw_astore_n (pc' := 46) (ls' := [some (vR 1 r0), none, none, some (vR 9 q0)]) rfl (by decide) rfl ?_
  refine jw_aload_n (pc' := 47) rfl rfl ?_
  refine jw_aload_n (pc' := 48) rfl rfl ?_
  obtain ⟨g_1, w⟩ := w
  refine jw_cV (st := []) (sa := [vR 1 r0, vR 9 q0]) okX1_error rfl rfl rfl rfl rfl rfl (jstp_virtual (sa := [vR 9 q0]) (st := []) (k := 0) rfl rfl sX1_error okX1_error g_1 (one1.k g_1) rfl rfl) w (fun h_2 _ _ w => ?_)
  refine jw_aload_n (pc' := 52) rfl rfl ?_
  refine jw_getR (pc' := 55) (F := 7) (t' := 3) rfl rfl rfl rfl rfl g_1 ?_
  obtain ⟨g_5, w⟩ := w
  refine jw_cV (st := []) (sa := [vR 3 (jfr h_2 7 r0)]) okX3_failed rfl rfl rfl rfl rfl rfl (jstp_virtual (sa := []) (st := []) (k := 0) rfl rfl sX3_failed okX3_failed g_5 (one3.k g_5) rfl rfl) w (fun h_6 _ _ w => ?_)
  refine jw_gen (ls' := [some (vR 1 r0), none, none, none]) (st' := []) (And.intro (Or.inl rfl) (trivial)) (trivial) ?_
  exact w_X1_query_58 w
def W_X1_query_31 (D : JD) (d : Nat) (Q : JO → JH → Prop) (r0 : Nat) (x1 : Int32) (r2 : Nat) (h : JH) : Prop :=
  r2 ≠ 0 ∧ (cJ5_length D d r2 h (pI D h (fun v_4 h_2 => r0 ≠ 0 ∧ (cX1_run D d r0 x1 (x1 + v_4) h_2 (pV D h_2 (fun h_6 => W_X1_query_58 D d Q r0 h_6) (fun x_9 h_10 => (jkd h_10 x_9 = 9 ∧ W_X1_query_45 D d Q r0 x_9 h_10))))) (fun x_12 h_13 => (jkd h_13 x_12 = 9 ∧ W_X1_query_45 D d Q r0 x_12 h_13))))
theorem w_X1_query_31 {D : JD} {d : Nat} {Q : JO → JH → Prop} {r0 : Nat} {x1 : Int32} {r2 : Nat} {h : JH} (w : W_X1_query_31 D d Q r0 x1 r2 h) : JW D (d + 1) mX1_query 31 [some (vR 1 r0), some (vI x1), some (vR 64 r2), none] [] h Q := by
  unfold W_X1_query_31 at w
  refine jw_aload_n (pc' := 32) rfl rfl ?_
  refine jw_iload_n (pc' := 33) rfl rfl ?_
  refine jw_iload_n (pc' := 34) rfl rfl ?_
  refine jw_aload_n (pc' := 35) rfl rfl ?_
  obtain ⟨g_1, w⟩ := w
  refine jw_cIH (st := [vI x1, vI x1, vR 1 r0]) (sa := [vR 64 r2]) okJ5_length rfl rfl rfl rfl rfl (jstp_virtual (sa := []) (st := [vI x1, vI x1, vR 1 r0]) (k := 0) rfl rfl sJ5_length okJ5_length g_1 (one64.k g_1) rfl rfl) w (fun v_4 h_2 _ _ w => ?_) (fun x_12 h_13 _ _ w => ?_)
  · refine jw_iadd (pc' := 39) rfl ?_
    obtain ⟨g_5, w⟩ := w
    refine jw_cVH (st := []) (sa := [vR 1 r0, vI x1, vI (x1 + v_4)]) okX1_run rfl rfl rfl rfl rfl (jstp_virtual (sa := [vI x1, vI (x1 + v_4)]) (st := []) (k := 0) rfl rfl sX1_run okX1_run g_5 (one1.k g_5) rfl rfl) w (fun h_6 _ _ w => ?_) (fun x_9 h_10 _ _ w => ?_)
    · refine jw_goto (pc' := 58) rfl rfl ?_
      refine jw_gen (ls' := [some (vR 1 r0), none, none, none]) (st' := []) (And.intro (Or.inl rfl) (trivial)) (trivial) ?_
      exact w_X1_query_58 w
    · obtain ⟨e_11, w⟩ := w
      refine ⟨45, by rw [e_11]; rfl, by rw [e_11]; rfl, ?_⟩
      rw [e_11]
      refine jw_gen (ls' := [some (vR 1 r0), none, none, none]) (st' := [vR 9 x_9]) (And.intro (Or.inl rfl) (trivial)) (And.intro (Or.inl rfl) (trivial)) ?_
      exact w_X1_query_45 w
  · obtain ⟨e_14, w⟩ := w
    refine ⟨45, by rw [e_14]; rfl, by rw [e_14]; rfl, ?_⟩
    rw [e_14]
    refine jw_gen (ls' := [some (vR 1 r0), none, none, none]) (st' := [vR 9 x_12]) (And.intro (Or.inl rfl) (trivial)) (And.intro (Or.inl rfl) (trivial)) ?_
    exact w_X1_query_45 w
def W_X1_query_0 (D : JD) (d : Nat) (Q : JO → JH → Prop) (r0 : Nat) (h : JH) : Prop :=
  r0 ≠ 0 ∧ (cX1_string D d r0 h (pR D h 64 (fun v_4 h_2 => cX1_all D d r0 h_2 (pV D h_2 (fun h_5 => (jfr h_5 7 r0) ≠ 0 ∧ ((¬ (jfi h_5 36 (jfr h_5 7 r0)) = 0 → W_X1_query_31 D d Q r0 (jfi h 13 r0) v_4 h_5) ∧ ((jfi h_5 36 (jfr h_5 7 r0)) = 0 → cX3_save D d (jfr h_5 7 r0) h_5 (pV D h_5 (fun h_10 => W_X1_query_31 D d Q r0 (jfi h 13 r0) v_4 h_10) (jth Q))))) (jth Q))) (jth Q)))
theorem w_X1_query_0 {D : JD} {d : Nat} {Q : JO → JH → Prop} {r0 : Nat} {h : JH} (w : W_X1_query_0 D d Q r0 h) : JW D (d + 1) mX1_query 0 [some (vR 1 r0), none, none, none] [] h Q := by
  unfold W_X1_query_0 at w
  refine jw_aload_n (pc' := 1) rfl rfl ?_
  obtain ⟨g_1, w⟩ := w
  refine jw_getI (pc' := 4) (F := 13) rfl rfl rfl rfl g_1 ?_
  refine jw_istore_n (pc' := 5) (ls' := [some (vR 1 r0), some (vI (jfi h 13 r0)), none, none]) rfl (by decide) rfl ?_
  refine jw_aload_n (pc' := 6) rfl rfl ?_
  refine jw_cR (st := []) (sa := [vR 1 r0]) okX1_string rfl rfl rfl rfl rfl rfl (jstp_virtual (sa := []) (st := []) (k := 0) rfl rfl sX1_string okX1_string g_1 (one1.k g_1) rfl rfl) w (fun v_4 h_2 _ _ _ w => ?_)
  refine jw_astore_n (pc' := 10) (ls' := [some (vR 1 r0), some (vI (jfi h 13 r0)), some (vR 64 v_4), none]) rfl (by decide) rfl ?_
  refine jw_aload_n (pc' := 11) rfl rfl ?_
  refine jw_cV (st := []) (sa := [vR 1 r0]) okX1_all rfl rfl rfl rfl rfl rfl (jstp_virtual (sa := []) (st := []) (k := 0) rfl rfl sX1_all okX1_all g_1 (one1.k g_1) rfl rfl) w (fun h_5 _ _ w => ?_)
  refine jw_aload_n (pc' := 15) rfl rfl ?_
  refine jw_getR (pc' := 18) (F := 7) (t' := 3) rfl rfl rfl rfl rfl g_1 ?_
  obtain ⟨g_8, w⟩ := w
  refine jw_getI (pc' := 21) (F := 36) rfl rfl rfl rfl g_8 ?_
  refine jw_if_ne (tgt := 31) (pc' := 24) rfl rfl (fun c_9 => ?_) (fun c_9 => ?_)
  · replace w := w.1 c_9
    exact w_X1_query_31 w
  · replace w := w.2 c_9
    refine jw_aload_n (pc' := 25) rfl rfl ?_
    refine jw_getR (pc' := 28) (F := 7) (t' := 3) rfl rfl rfl rfl rfl g_1 ?_
    refine jw_cV (st := []) (sa := [vR 3 (jfr h_5 7 r0)]) okX3_save rfl rfl rfl rfl rfl rfl (jstp_virtual (sa := []) (st := []) (k := 0) rfl rfl sX3_save okX3_save g_8 (one3.k g_8) rfl rfl) w (fun h_10 _ _ w => ?_)
    exact w_X1_query_31 w
def T_X1_query (D : JD) (d : Nat) (Q : JO → JH → Prop) (r0 : Nat) (h : JH) : Prop := W_X1_query_0 D d Q r0 h
theorem t_X1_query {D : JD} {d : Nat} {Q : JO → JH → Prop} {r0 : Nat} {h : JH} (w : T_X1_query D d Q r0 h) : cX1_query D (d + 1) r0 h Q := by
  unfold T_X1_query at w
  unfold cX1_query
  exact w_X1_query_0 w
def W_X1_run_228 (D : JD) (d : Nat) (Q : JO → JH → Prop) (K90 : Nat → Nat → Int32 → Int32 → JH → Prop) (r0 : Nat) (r4 : Nat) (x5 : Int32) (x6 : Int32) (r8 : Nat) (h : JH) : Prop :=
  r0 ≠ 0 ∧ (cX1_tag D d r0 r8 h (pV D h (fun h_2 => K90 r0 r4 x5 (x6 + (1 : Int32)) h_2) (jth Q)))
theorem w_X1_run_228 {D : JD} {d : Nat} {Q : JO → JH → Prop} {K90 : Nat → Nat → Int32 → Int32 → JH → Prop} {r0 : Nat} {r4 : Nat} {x5 : Int32} {x6 : Int32} {r8 : Nat} {h : JH} (hK90 : ∀ (r0 : Nat) (r4 : Nat) (x5 : Int32) (x6 : Int32) (h : JH), K90 r0 r4 x5 x6 h → JW D (d + 1) mX1_run 90 [some (vR 1 r0), none, none, none, some (vR 81 r4), some (vI x5), some (vI x6), none, none, none] [] h Q) (w : W_X1_run_228 D d Q K90 r0 r4 x5 x6 r8 h) : JW D (d + 1) mX1_run 228 [some (vR 1 r0), none, none, none, some (vR 81 r4), some (vI x5), some (vI x6), none, some (vR 64 r8), none] [] h Q := by
  unfold W_X1_run_228 at w
  refine jw_aload_n (pc' := 229) rfl rfl ?_
  refine jw_aload (pc' := 231) rfl rfl ?_
  obtain ⟨g_1, w⟩ := w
  refine jw_cV (st := []) (sa := [vR 1 r0, vR 64 r8]) okX1_tag rfl rfl rfl rfl rfl rfl (jstp_virtual (sa := [vR 64 r8]) (st := []) (k := 0) rfl rfl sX1_tag okX1_tag g_1 (one1.k g_1) rfl rfl) w (fun h_2 _ _ w => ?_)
  refine jw_iinc (pc' := 237) (y := x6 + (1 : Int32)) (ls' := [some (vR 1 r0), none, none, none, some (vR 81 r4), some (vI x5), some (vI (x6 + (1 : Int32))), none, some (vR 64 r8), none]) rfl (by decide) rfl rfl rfl ?_
  refine jw_goto (pc' := 90) rfl rfl ?_
  refine jw_gen (ls' := [some (vR 1 r0), none, none, none, some (vR 81 r4), some (vI x5), some (vI (x6 + (1 : Int32))), none, none, none]) (st' := []) (And.intro (Or.inl rfl) (And.intro (Or.inl rfl) (And.intro (Or.inl rfl) (And.intro (Or.inl rfl) (trivial))))) (trivial) ?_
  exact hK90 _ _ _ _ _ w
def W_X1_run_191 (D : JD) (d : Nat) (Q : JO → JH → Prop) (K90 : Nat → Nat → Int32 → Int32 → JH → Prop) (K191 : Nat → Nat → Int32 → Int32 → Nat → Int32 → JH → Prop) (r0 : Nat) (r4 : Nat) (x5 : Int32) (x6 : Int32) (r8 : Nat) (x9 : Int32) (h : JH) : Prop :=
  r0 ≠ 0 ∧ ((jfr h 7 r0) ≠ 0 ∧ ((jfr h 34 (jfr h 7 r0)) ≠ 0 ∧ (((jfi h 63 (jfr h 34 (jfr h 7 r0))) ≤ x9 → W_X1_run_228 D d Q K90 r0 r4 x5 x6 r8 h) ∧ (¬ (jfi h 63 (jfr h 34 (jfr h 7 r0))) ≤ x9 → cX7_send D d (jfr h 34 (jfr h 7 r0)) x9 (jfr h 4 r0) h (pV D h (fun h_5 => K191 r0 r4 x5 x6 r8 (x9 + (1 : Int32)) h_5) (jth Q))))))
theorem w_X1_run_191 {D : JD} {d : Nat} {Q : JO → JH → Prop} {K90 : Nat → Nat → Int32 → Int32 → JH → Prop} {K191 : Nat → Nat → Int32 → Int32 → Nat → Int32 → JH → Prop} {r0 : Nat} {r4 : Nat} {x5 : Int32} {x6 : Int32} {r8 : Nat} {x9 : Int32} {h : JH} (hK90 : ∀ (r0 : Nat) (r4 : Nat) (x5 : Int32) (x6 : Int32) (h : JH), K90 r0 r4 x5 x6 h → JW D (d + 1) mX1_run 90 [some (vR 1 r0), none, none, none, some (vR 81 r4), some (vI x5), some (vI x6), none, none, none] [] h Q) (hK191 : ∀ (r0 : Nat) (r4 : Nat) (x5 : Int32) (x6 : Int32) (r8 : Nat) (x9 : Int32) (h : JH), K191 r0 r4 x5 x6 r8 x9 h → JW D (d + 1) mX1_run 191 [some (vR 1 r0), none, none, none, some (vR 81 r4), some (vI x5), some (vI x6), none, some (vR 64 r8), some (vI x9)] [] h Q) (w : W_X1_run_191 D d Q K90 K191 r0 r4 x5 x6 r8 x9 h) : JW D (d + 1) mX1_run 191 [some (vR 1 r0), none, none, none, some (vR 81 r4), some (vI x5), some (vI x6), none, some (vR 64 r8), some (vI x9)] [] h Q := by
  unfold W_X1_run_191 at w
  refine jw_iload (pc' := 193) rfl rfl ?_
  refine jw_aload_n (pc' := 194) rfl rfl ?_
  obtain ⟨g_1, w⟩ := w
  refine jw_getR (pc' := 197) (F := 7) (t' := 3) rfl rfl rfl rfl rfl g_1 ?_
  obtain ⟨g_2, w⟩ := w
  refine jw_getR (pc' := 200) (F := 34) (t' := 110) rfl rfl rfl rfl rfl g_2 ?_
  obtain ⟨g_3, w⟩ := w
  refine jw_getI (pc' := 203) (F := 63) rfl rfl rfl rfl g_3 ?_
  refine jw_icmp_ge (tgt := 228) (pc' := 206) rfl rfl (fun c_4 => ?_) (fun c_4 => ?_)
  · replace w := w.1 c_4
    refine jw_gen (ls' := [some (vR 1 r0), none, none, none, some (vR 81 r4), some (vI x5), some (vI x6), none, some (vR 64 r8), none]) (st' := []) (And.intro (Or.inl rfl) (And.intro (Or.inl rfl) (And.intro (Or.inl rfl) (And.intro (Or.inl rfl) (And.intro (Or.inl rfl) (trivial)))))) (trivial) ?_
    exact w_X1_run_228 hK90 w
  · replace w := w.2 c_4
    refine jw_aload_n (pc' := 207) rfl rfl ?_
    refine jw_getR (pc' := 210) (F := 7) (t' := 3) rfl rfl rfl rfl rfl g_1 ?_
    refine jw_getR (pc' := 213) (F := 34) (t' := 110) rfl rfl rfl rfl rfl g_2 ?_
    refine jw_iload (pc' := 215) rfl rfl ?_
    refine jw_aload_n (pc' := 216) rfl rfl ?_
    refine jw_getR (pc' := 219) (F := 4) (t' := 112) rfl rfl rfl rfl rfl g_1 ?_
    refine jw_cV (st := []) (sa := [vR 110 (jfr h 34 (jfr h 7 r0)), vI x9, vR 112 (jfr h 4 r0)]) okX7_send rfl rfl rfl rfl rfl rfl (jstp_virtual (sa := [vI x9, vR 112 (jfr h 4 r0)]) (st := []) (k := 0) rfl rfl sX7_send okX7_send g_3 (one110.k g_3) rfl rfl) w (fun h_5 _ _ w => ?_)
    refine jw_iinc (pc' := 225) (y := x9 + (1 : Int32)) (ls' := [some (vR 1 r0), none, none, none, some (vR 81 r4), some (vI x5), some (vI x6), none, some (vR 64 r8), some (vI (x9 + (1 : Int32)))]) rfl (by decide) rfl rfl rfl ?_
    refine jw_goto (pc' := 191) rfl rfl ?_
    exact hK191 _ _ _ _ _ _ _ w
def L_X1_run_191 (D : JD) (d : Nat) (Q : JO → JH → Prop) (K90 : Nat → Nat → Int32 → Int32 → JH → Prop) : Nat → Nat → Nat → Int32 → Int32 → Nat → Int32 → JH → Prop
  | 0 => fun _ _ _ _ _ _ _ => False
  | n + 1 => fun r0 r4 x5 x6 r8 x9 h => W_X1_run_191 D d Q K90 (L_X1_run_191 D d Q K90 n) r0 r4 x5 x6 r8 x9 h
theorem l_X1_run_191 {D : JD} {d : Nat} {Q : JO → JH → Prop} {K90 : Nat → Nat → Int32 → Int32 → JH → Prop} (hK90 : ∀ (r0 : Nat) (r4 : Nat) (x5 : Int32) (x6 : Int32) (h : JH), K90 r0 r4 x5 x6 h → JW D (d + 1) mX1_run 90 [some (vR 1 r0), none, none, none, some (vR 81 r4), some (vI x5), some (vI x6), none, none, none] [] h Q) : ∀ (n : Nat) (r0 : Nat) (r4 : Nat) (x5 : Int32) (x6 : Int32) (r8 : Nat) (x9 : Int32) (h : JH), L_X1_run_191 D d Q K90 n r0 r4 x5 x6 r8 x9 h → JW D (d + 1) mX1_run 191 [some (vR 1 r0), none, none, none, some (vR 81 r4), some (vI x5), some (vI x6), none, some (vR 64 r8), some (vI x9)] [] h Q := by
  intro n
  induction n with
  | zero => intro _ _ _ _ _ _ _ w; exact w.elim
  | succ n ih => intro _ _ _ _ _ _ h w; exact w_X1_run_191 hK90 ih w
def W_X1_run_173 (D : JD) (d : Nat) (Q : JO → JH → Prop) (K90 : Nat → Nat → Int32 → Int32 → JH → Prop) (r0 : Nat) (r4 : Nat) (x5 : Int32) (x6 : Int32) (r8 : Nat) (s0 : Int32) (h : JH) : Prop :=
  (s0 = 0 → W_X1_run_228 D d Q K90 r0 r4 x5 x6 r8 h) ∧ (¬ s0 = 0 → r4 ≠ 0 ∧ jin x6 (jln h r4) ∧ (((jar h r4 (ixn x6)) = 0 ∨ jkd h (jar h r4 (ixn x6)) = 33) ∧ (r0 ≠ 0 ∧ (cX1_columns D d r0 (jar h r4 (ixn x6)) h (pV D h (fun h_6 => ∃ n, L_X1_run_191 D d Q K90 n r0 r4 x5 x6 r8 (0 : Int32) h_6) (jth Q))))))
theorem w_X1_run_173 {D : JD} {d : Nat} {Q : JO → JH → Prop} {K90 : Nat → Nat → Int32 → Int32 → JH → Prop} {r0 : Nat} {r4 : Nat} {x5 : Int32} {x6 : Int32} {r8 : Nat} {s0 : Int32} {h : JH} (hK90 : ∀ (r0 : Nat) (r4 : Nat) (x5 : Int32) (x6 : Int32) (h : JH), K90 r0 r4 x5 x6 h → JW D (d + 1) mX1_run 90 [some (vR 1 r0), none, none, none, some (vR 81 r4), some (vI x5), some (vI x6), none, none, none] [] h Q) (w : W_X1_run_173 D d Q K90 r0 r4 x5 x6 r8 s0 h) : JW D (d + 1) mX1_run 173 [some (vR 1 r0), none, none, none, some (vR 81 r4), some (vI x5), some (vI x6), none, some (vR 64 r8), none] [vI s0] h Q := by
  unfold W_X1_run_173 at w
  refine jw_if_eq (tgt := 228) (pc' := 176) rfl rfl (fun c_1 => ?_) (fun c_1 => ?_)
  · replace w := w.1 c_1
    exact w_X1_run_228 hK90 w
  · replace w := w.2 c_1
    refine jw_aload_n (pc' := 177) rfl rfl ?_
    refine jw_aload (pc' := 179) rfl rfl ?_
    refine jw_iload (pc' := 181) rfl rfl ?_
    obtain ⟨g_2, w⟩ := w
    obtain ⟨g_3, w⟩ := w
    refine jw_aald (pc' := 182) (t' := 57) rfl rfl rfl rfl g_2 g_3.ix g_3.2 ?_
    obtain ⟨g_4, w⟩ := w
    refine jw_cast (pc' := 185) (t2 := 33) rfl rfl rfl rfl g_4 ?_
    obtain ⟨g_5, w⟩ := w
    refine jw_cV (st := []) (sa := [vR 1 r0, vR 33 (jar h r4 (ixn x6))]) okX1_columns rfl rfl rfl rfl rfl rfl (jstp_virtual (sa := [vR 33 (jar h r4 (ixn x6))]) (st := []) (k := 0) rfl rfl sX1_columns okX1_columns g_5 (one1.k g_5) rfl rfl) w (fun h_6 _ _ w => ?_)
    refine jw_iconst (pc' := 189) (x := (0 : Int32)) rfl rfl ?_
    refine jw_istore (pc' := 191) (ls' := [some (vR 1 r0), none, none, none, some (vR 81 r4), some (vI x5), some (vI x6), none, some (vR 64 r8), some (vI (0 : Int32))]) rfl (by decide) rfl ?_
    obtain ⟨n, w⟩ := w
    exact l_X1_run_191 hK90 n _ _ _ _ _ _ _ w
def W_X1_run_165 (D : JD) (d : Nat) (Q : JO → JH → Prop) (K90 : Nat → Nat → Int32 → Int32 → JH → Prop) (r0 : Nat) (r4 : Nat) (x5 : Int32) (x6 : Int32) (r8 : Nat) (h : JH) : Prop :=
  r4 ≠ 0 ∧ jin x6 (jln h r4) ∧ ((jar h r4 (ixn x6)) ≠ 0 ∧ (v57_selects D d (jar h r4 (ixn x6)) h (pI D h (fun v_6 h_4 => W_X1_run_173 D d Q K90 r0 r4 x5 x6 r8 v_6 h_4) (jth Q))))
theorem w_X1_run_165 {D : JD} {d : Nat} {Q : JO → JH → Prop} {K90 : Nat → Nat → Int32 → Int32 → JH → Prop} {r0 : Nat} {r4 : Nat} {x5 : Int32} {x6 : Int32} {r8 : Nat} {h : JH} (hK90 : ∀ (r0 : Nat) (r4 : Nat) (x5 : Int32) (x6 : Int32) (h : JH), K90 r0 r4 x5 x6 h → JW D (d + 1) mX1_run 90 [some (vR 1 r0), none, none, none, some (vR 81 r4), some (vI x5), some (vI x6), none, none, none] [] h Q) (w : W_X1_run_165 D d Q K90 r0 r4 x5 x6 r8 h) : JW D (d + 1) mX1_run 165 [some (vR 1 r0), none, none, none, some (vR 81 r4), some (vI x5), some (vI x6), none, some (vR 64 r8), none] [] h Q := by
  unfold W_X1_run_165 at w
  refine jw_aload (pc' := 167) rfl rfl ?_
  refine jw_iload (pc' := 169) rfl rfl ?_
  obtain ⟨g_1, w⟩ := w
  obtain ⟨g_2, w⟩ := w
  refine jw_aald (pc' := 170) (t' := 57) rfl rfl rfl rfl g_1 g_2.ix g_2.2 ?_
  obtain ⟨g_3, w⟩ := w
  refine JW.inv (fun hI => JW.oks (fun ho => ?_))
  have hkd := und57.k hI (ho (vR 57 (jar h r4 (ixn x6))) (by simp)) g_3
  simp only [List.mem_cons, List.not_mem_nil, or_false] at hkd
  clear ho hI
  rcases hkd with e_7 | e_7 | e_7 | e_7 | e_7 | e_7 | e_7
  · refine jw_cI (st := []) (sa := [vR 57 (jar h r4 (ixn x6))]) okX20_selects rfl rfl rfl rfl rfl rfl (jstp_up (sa := []) (st := []) rfl (lw_g (jtb_mem (c := 13) (i := 108) rfl) rfl) um3 okX20_selects g_3 (fun _ _ => by rw [e_7]; exact ⟨rfl, rfl⟩) rfl rfl) (w.1 e_7) (fun v_6 h_4 _ _ w => ?_)
    exact w_X1_run_173 hK90 w
  · refine jw_cI (st := []) (sa := [vR 57 (jar h r4 (ixn x6))]) okX20_selects rfl rfl rfl rfl rfl rfl (jstp_up (sa := []) (st := []) rfl (lw_g (jtb_mem (c := 13) (i := 108) rfl) rfl) um4 okX20_selects g_3 (fun _ _ => by rw [e_7]; exact ⟨rfl, rfl⟩) rfl rfl) (w.2.1 e_7) (fun v_6 h_4 _ _ w => ?_)
    exact w_X1_run_173 hK90 w
  · refine jw_cI (st := []) (sa := [vR 57 (jar h r4 (ixn x6))]) okX20_selects rfl rfl rfl rfl rfl rfl (jstp_up (sa := []) (st := []) rfl (lw_g (jtb_mem (c := 13) (i := 108) rfl) rfl) um5 okX20_selects g_3 (fun _ _ => by rw [e_7]; exact ⟨rfl, rfl⟩) rfl rfl) (w.2.2.1 e_7) (fun v_6 h_4 _ _ w => ?_)
    exact w_X1_run_173 hK90 w
  · refine jw_cI (st := []) (sa := [vR 57 (jar h r4 (ixn x6))]) okX20_selects rfl rfl rfl rfl rfl rfl (jstp_up (sa := []) (st := []) rfl (lw_g (jtb_mem (c := 13) (i := 108) rfl) rfl) um6 okX20_selects g_3 (fun _ _ => by rw [e_7]; exact ⟨rfl, rfl⟩) rfl rfl) (w.2.2.2.1 e_7) (fun v_6 h_4 _ _ w => ?_)
    exact w_X1_run_173 hK90 w
  · refine jw_cI (st := []) (sa := [vR 57 (jar h r4 (ixn x6))]) okX20_selects rfl rfl rfl rfl rfl rfl (jstp_up (sa := []) (st := []) rfl (lw_g (jtb_mem (c := 13) (i := 108) rfl) rfl) um7 okX20_selects g_3 (fun _ _ => by rw [e_7]; exact ⟨rfl, rfl⟩) rfl rfl) (w.2.2.2.2.1 e_7) (fun v_6 h_4 _ _ w => ?_)
    exact w_X1_run_173 hK90 w
  · refine jw_gen (ls' := _) (st' := [vR 33 (jar h r4 (ixn x6))]) (jgl_rf _ _) (And.intro (Or.inr ⟨_, _, _, rfl, rfl, Or.inr (Or.inr (by rw [e_7]; rfl))⟩) (jgs_rf _ _)) ?_
    refine jw_cI (st := []) (sa := [vR 33 (jar h r4 (ixn x6))]) okX40_selects rfl rfl rfl rfl rfl rfl (jstp_up (sa := []) (st := []) rfl (lw_g (jtb_mem (c := 13) (i := 108) rfl) rfl) um8 okX40_selects g_3 (fun _ _ => by rw [e_7]; exact ⟨rfl, rfl⟩) rfl rfl) (w.2.2.2.2.2.1 e_7) (fun v_6 h_4 _ _ w => ?_)
    exact w_X1_run_173 hK90 w
  · refine jw_cI (st := []) (sa := [vR 57 (jar h r4 (ixn x6))]) okX20_selects rfl rfl rfl rfl rfl rfl (jstp_up (sa := []) (st := []) rfl (lw_g (jtb_mem (c := 13) (i := 108) rfl) rfl) um9 okX20_selects g_3 (fun _ _ => by rw [e_7]; exact ⟨rfl, rfl⟩) rfl rfl) (w.2.2.2.2.2.2 e_7) (fun v_6 h_4 _ _ w => ?_)
    exact w_X1_run_173 hK90 w
def W_X1_run_144 (D : JD) (d : Nat) (Q : JO → JH → Prop) (K90 : Nat → Nat → Int32 → Int32 → JH → Prop) (r0 : Nat) (r4 : Nat) (x5 : Int32) (x6 : Int32) (x7 : Int32) (q0 : Nat) (h : JH) : Prop :=
  (x7 = 0 → W_X1_run_165 D d Q K90 r0 r4 x5 x6 q0 h) ∧ (¬ x7 = 0 → r0 ≠ 0 ∧ ((jfr h 7 r0) ≠ 0 ∧ ((¬ (jfi h 36 (jfr h 7 r0)) = 0 → W_X1_run_165 D d Q K90 r0 r4 x5 x6 q0 h) ∧ ((jfi h 36 (jfr h 7 r0)) = 0 → cX1_dropPortals D d r0 h (pV D h (fun h_5 => W_X1_run_165 D d Q K90 r0 r4 x5 x6 q0 h_5) (jth Q))))))
theorem w_X1_run_144 {D : JD} {d : Nat} {Q : JO → JH → Prop} {K90 : Nat → Nat → Int32 → Int32 → JH → Prop} {r0 : Nat} {r4 : Nat} {x5 : Int32} {x6 : Int32} {x7 : Int32} {q0 : Nat} {h : JH} (hK90 : ∀ (r0 : Nat) (r4 : Nat) (x5 : Int32) (x6 : Int32) (h : JH), K90 r0 r4 x5 x6 h → JW D (d + 1) mX1_run 90 [some (vR 1 r0), none, none, none, some (vR 81 r4), some (vI x5), some (vI x6), none, none, none] [] h Q) (w : W_X1_run_144 D d Q K90 r0 r4 x5 x6 x7 q0 h) : JW D (d + 1) mX1_run 144 [some (vR 1 r0), none, none, none, some (vR 81 r4), some (vI x5), some (vI x6), some (vI x7), none, none] [vR 64 q0] h Q := by
  unfold W_X1_run_144 at w
  refine jw_astore (pc' := 146) (ls' := [some (vR 1 r0), none, none, none, some (vR 81 r4), some (vI x5), some (vI x6), some (vI x7), some (vR 64 q0), none]) rfl (by decide) rfl ?_
  refine jw_iload (pc' := 148) rfl rfl ?_
  refine jw_if_eq (tgt := 165) (pc' := 151) rfl rfl (fun c_1 => ?_) (fun c_1 => ?_)
  · replace w := w.1 c_1
    refine jw_gen (ls' := [some (vR 1 r0), none, none, none, some (vR 81 r4), some (vI x5), some (vI x6), none, some (vR 64 q0), none]) (st' := []) (And.intro (Or.inl rfl) (And.intro (Or.inl rfl) (And.intro (Or.inl rfl) (And.intro (Or.inl rfl) (And.intro (Or.inl rfl) (trivial)))))) (trivial) ?_
    exact w_X1_run_165 hK90 w
  · replace w := w.2 c_1
    refine jw_aload_n (pc' := 152) rfl rfl ?_
    obtain ⟨g_2, w⟩ := w
    refine jw_getR (pc' := 155) (F := 7) (t' := 3) rfl rfl rfl rfl rfl g_2 ?_
    obtain ⟨g_3, w⟩ := w
    refine jw_getI (pc' := 158) (F := 36) rfl rfl rfl rfl g_3 ?_
    refine jw_if_ne (tgt := 165) (pc' := 161) rfl rfl (fun c_4 => ?_) (fun c_4 => ?_)
    · replace w := w.1 c_4
      refine jw_gen (ls' := [some (vR 1 r0), none, none, none, some (vR 81 r4), some (vI x5), some (vI x6), none, some (vR 64 q0), none]) (st' := []) (And.intro (Or.inl rfl) (And.intro (Or.inl rfl) (And.intro (Or.inl rfl) (And.intro (Or.inl rfl) (And.intro (Or.inl rfl) (trivial)))))) (trivial) ?_
      exact w_X1_run_165 hK90 w
    · replace w := w.2 c_4
      refine jw_aload_n (pc' := 162) rfl rfl ?_
      refine jw_cV (st := []) (sa := [vR 1 r0]) okX1_dropPortals rfl rfl rfl rfl rfl rfl (jstp_virtual (sa := []) (st := []) (k := 0) rfl rfl sX1_dropPortals okX1_dropPortals g_2 (one1.k g_2) rfl rfl) w (fun h_5 _ _ w => ?_)
      refine jw_gen (ls' := [some (vR 1 r0), none, none, none, some (vR 81 r4), some (vI x5), some (vI x6), none, some (vR 64 q0), none]) (st' := []) (And.intro (Or.inl rfl) (And.intro (Or.inl rfl) (And.intro (Or.inl rfl) (And.intro (Or.inl rfl) (And.intro (Or.inl rfl) (trivial)))))) (trivial) ?_
      exact w_X1_run_165 hK90 w
def W_X1_run_90 (D : JD) (d : Nat) (Q : JO → JH → Prop) (K90 : Nat → Nat → Int32 → Int32 → JH → Prop) (r0 : Nat) (r4 : Nat) (x5 : Int32) (x6 : Int32) (h : JH) : Prop :=
  (x5 ≤ x6 → Q (.inl none) h) ∧ (¬ x5 ≤ x6 → r0 ≠ 0 ∧ ((jfr h 7 r0) ≠ 0 ∧ (r4 ≠ 0 ∧ jin x6 (jln h r4) ∧ (cX3_check D d (jfr h 7 r0) (jar h r4 (ixn x6)) (jfr h 39 (jfr h 7 r0)) (jfr h 38 (jfr h 7 r0)) h (pV D h (fun h_6 => jin x6 (jln h_6 r4) ∧ ((jar h_6 r4 (ixn x6)) ≠ 0 ∧ (v57_work D d (jar h_6 r4 (ixn x6)) (jfr h_6 7 r0) h_6 (pR D h_6 64 (fun v_13 h_11 => W_X1_run_144 D d Q K90 r0 r4 x5 x6 (jfi h 36 (jfr h 7 r0)) v_13 h_11) (jth Q))))) (jth Q))))))
theorem w_X1_run_90 {D : JD} {d : Nat} {Q : JO → JH → Prop} {K90 : Nat → Nat → Int32 → Int32 → JH → Prop} {r0 : Nat} {r4 : Nat} {x5 : Int32} {x6 : Int32} {h : JH} (hK90 : ∀ (r0 : Nat) (r4 : Nat) (x5 : Int32) (x6 : Int32) (h : JH), K90 r0 r4 x5 x6 h → JW D (d + 1) mX1_run 90 [some (vR 1 r0), none, none, none, some (vR 81 r4), some (vI x5), some (vI x6), none, none, none] [] h Q) (w : W_X1_run_90 D d Q K90 r0 r4 x5 x6 h) : JW D (d + 1) mX1_run 90 [some (vR 1 r0), none, none, none, some (vR 81 r4), some (vI x5), some (vI x6), none, none, none] [] h Q := by
  unfold W_X1_run_90 at w
  refine jw_iload (pc' := 92) rfl rfl ?_
  refine jw_iload (pc' := 94) rfl rfl ?_
  refine jw_icmp_ge (tgt := 240) (pc' := 97) rfl rfl (fun c_1 => ?_) (fun c_1 => ?_)
  · replace w := w.1 c_1
    exact jw_return rfl rfl w
  · replace w := w.2 c_1
    refine jw_aload_n (pc' := 98) rfl rfl ?_
    obtain ⟨g_2, w⟩ := w
    refine jw_getR (pc' := 101) (F := 7) (t' := 3) rfl rfl rfl rfl rfl g_2 ?_
    obtain ⟨g_3, w⟩ := w
    refine jw_getI (pc' := 104) (F := 36) rfl rfl rfl rfl g_3 ?_
    refine jw_istore (pc' := 106) (ls' := [some (vR 1 r0), none, none, none, some (vR 81 r4), some (vI x5), some (vI x6), some (vI (jfi h 36 (jfr h 7 r0))), none, none]) rfl (by decide) rfl ?_
    refine jw_aload_n (pc' := 107) rfl rfl ?_
    refine jw_getR (pc' := 110) (F := 7) (t' := 3) rfl rfl rfl rfl rfl g_2 ?_
    refine jw_aload (pc' := 112) rfl rfl ?_
    refine jw_iload (pc' := 114) rfl rfl ?_
    obtain ⟨g_4, w⟩ := w
    obtain ⟨g_5, w⟩ := w
    refine jw_aald (pc' := 115) (t' := 57) rfl rfl rfl rfl g_4 g_5.ix g_5.2 ?_
    refine jw_aload_n (pc' := 116) rfl rfl ?_
    refine jw_getR (pc' := 119) (F := 7) (t' := 3) rfl rfl rfl rfl rfl g_2 ?_
    refine jw_getR (pc' := 122) (F := 39) (t' := 138) rfl rfl rfl rfl rfl g_3 ?_
    refine jw_aload_n (pc' := 123) rfl rfl ?_
    refine jw_getR (pc' := 126) (F := 7) (t' := 3) rfl rfl rfl rfl rfl g_2 ?_
    refine jw_getR (pc' := 129) (F := 38) (t' := 137) rfl rfl rfl rfl rfl g_3 ?_
    refine jw_cV (st := []) (sa := [vR 3 (jfr h 7 r0), vR 57 (jar h r4 (ixn x6)), vR 138 (jfr h 39 (jfr h 7 r0)), vR 137 (jfr h 38 (jfr h 7 r0))]) okX3_check rfl rfl rfl rfl rfl rfl (jstp_virtual (sa := [vR 57 (jar h r4 (ixn x6)), vR 138 (jfr h 39 (jfr h 7 r0)), vR 137 (jfr h 38 (jfr h 7 r0))]) (st := []) (k := 0) rfl rfl sX3_check okX3_check g_3 (one3.k g_3) rfl rfl) w (fun h_6 _ _ w => ?_)
    refine jw_aload (pc' := 134) rfl rfl ?_
    refine jw_iload (pc' := 136) rfl rfl ?_
    obtain ⟨g_9, w⟩ := w
    refine jw_aald (pc' := 137) (t' := 57) rfl rfl rfl rfl g_4 g_9.ix g_9.2 ?_
    refine jw_aload_n (pc' := 138) rfl rfl ?_
    refine jw_getR (pc' := 141) (F := 7) (t' := 3) rfl rfl rfl rfl rfl g_2 ?_
    obtain ⟨g_10, w⟩ := w
    refine JW.inv (fun hI => JW.oks (fun ho => ?_))
    have hkd := und57.k hI (ho (vR 57 (jar h_6 r4 (ixn x6))) (by simp)) g_10
    simp only [List.mem_cons, List.not_mem_nil, or_false] at hkd
    clear ho hI
    rcases hkd with e_14 | e_14 | e_14 | e_14 | e_14 | e_14 | e_14
    · refine jw_gen (ls' := _) (st' := [vR 3 (jfr h_6 7 r0), vR 17 (jar h_6 r4 (ixn x6))]) (jgl_rf _ _) (And.intro (Or.inl rfl) (And.intro (Or.inr ⟨_, _, _, rfl, rfl, Or.inr (Or.inr (by rw [e_14]; rfl))⟩) (jgs_rf _ _))) ?_
      refine jw_cR (st := []) (sa := [vR 17 (jar h_6 r4 (ixn x6)), vR 3 (jfr h_6 7 r0)]) okX21_work rfl rfl rfl rfl rfl rfl (jstp_up (sa := [vR 3 (jfr h_6 7 r0)]) (st := []) rfl (lw_g (jtb_mem (c := 11) (i := 208) rfl) rfl) um10 okX21_work g_10 (fun _ _ => by rw [e_14]; exact ⟨rfl, rfl⟩) rfl rfl) (w.1 e_14) (fun v_13 h_11 _ _ _ w => ?_)
      exact w_X1_run_144 hK90 w
    · refine jw_gen (ls' := _) (st' := [vR 3 (jfr h_6 7 r0), vR 18 (jar h_6 r4 (ixn x6))]) (jgl_rf _ _) (And.intro (Or.inl rfl) (And.intro (Or.inr ⟨_, _, _, rfl, rfl, Or.inr (Or.inr (by rw [e_14]; rfl))⟩) (jgs_rf _ _))) ?_
      refine jw_cR (st := []) (sa := [vR 18 (jar h_6 r4 (ixn x6)), vR 3 (jfr h_6 7 r0)]) okX22_work rfl rfl rfl rfl rfl rfl (jstp_up (sa := [vR 3 (jfr h_6 7 r0)]) (st := []) rfl (lw_g (jtb_mem (c := 11) (i := 208) rfl) rfl) um11 okX22_work g_10 (fun _ _ => by rw [e_14]; exact ⟨rfl, rfl⟩) rfl rfl) (w.2.1 e_14) (fun v_13 h_11 _ _ _ w => ?_)
      exact w_X1_run_144 hK90 w
    · refine jw_gen (ls' := _) (st' := [vR 3 (jfr h_6 7 r0), vR 19 (jar h_6 r4 (ixn x6))]) (jgl_rf _ _) (And.intro (Or.inl rfl) (And.intro (Or.inr ⟨_, _, _, rfl, rfl, Or.inr (Or.inr (by rw [e_14]; rfl))⟩) (jgs_rf _ _))) ?_
      refine jw_cR (st := []) (sa := [vR 19 (jar h_6 r4 (ixn x6)), vR 3 (jfr h_6 7 r0)]) okX23_work rfl rfl rfl rfl rfl rfl (jstp_up (sa := [vR 3 (jfr h_6 7 r0)]) (st := []) rfl (lw_g (jtb_mem (c := 11) (i := 208) rfl) rfl) um12 okX23_work g_10 (fun _ _ => by rw [e_14]; exact ⟨rfl, rfl⟩) rfl rfl) (w.2.2.1 e_14) (fun v_13 h_11 _ _ _ w => ?_)
      exact w_X1_run_144 hK90 w
    · refine jw_gen (ls' := _) (st' := [vR 3 (jfr h_6 7 r0), vR 30 (jar h_6 r4 (ixn x6))]) (jgl_rf _ _) (And.intro (Or.inl rfl) (And.intro (Or.inr ⟨_, _, _, rfl, rfl, Or.inr (Or.inr (by rw [e_14]; rfl))⟩) (jgs_rf _ _))) ?_
      refine jw_cR (st := []) (sa := [vR 30 (jar h_6 r4 (ixn x6)), vR 3 (jfr h_6 7 r0)]) okX37_work rfl rfl rfl rfl rfl rfl (jstp_up (sa := [vR 3 (jfr h_6 7 r0)]) (st := []) rfl (lw_g (jtb_mem (c := 11) (i := 208) rfl) rfl) um13 okX37_work g_10 (fun _ _ => by rw [e_14]; exact ⟨rfl, rfl⟩) rfl rfl) (w.2.2.2.1 e_14) (fun v_13 h_11 _ _ _ w => ?_)
      exact w_X1_run_144 hK90 w
    · refine jw_gen (ls' := _) (st' := [vR 3 (jfr h_6 7 r0), vR 32 (jar h_6 r4 (ixn x6))]) (jgl_rf _ _) (And.intro (Or.inl rfl) (And.intro (Or.inr ⟨_, _, _, rfl, rfl, Or.inr (Or.inr (by rw [e_14]; rfl))⟩) (jgs_rf _ _))) ?_
      refine jw_cR (st := []) (sa := [vR 32 (jar h_6 r4 (ixn x6)), vR 3 (jfr h_6 7 r0)]) okX39_work rfl rfl rfl rfl rfl rfl (jstp_up (sa := [vR 3 (jfr h_6 7 r0)]) (st := []) rfl (lw_g (jtb_mem (c := 11) (i := 208) rfl) rfl) um14 okX39_work g_10 (fun _ _ => by rw [e_14]; exact ⟨rfl, rfl⟩) rfl rfl) (w.2.2.2.2.1 e_14) (fun v_13 h_11 _ _ _ w => ?_)
      exact w_X1_run_144 hK90 w
    · refine jw_gen (ls' := _) (st' := [vR 3 (jfr h_6 7 r0), vR 33 (jar h_6 r4 (ixn x6))]) (jgl_rf _ _) (And.intro (Or.inl rfl) (And.intro (Or.inr ⟨_, _, _, rfl, rfl, Or.inr (Or.inr (by rw [e_14]; rfl))⟩) (jgs_rf _ _))) ?_
      refine jw_cR (st := []) (sa := [vR 33 (jar h_6 r4 (ixn x6)), vR 3 (jfr h_6 7 r0)]) okX40_work rfl rfl rfl rfl rfl rfl (jstp_up (sa := [vR 3 (jfr h_6 7 r0)]) (st := []) rfl (lw_g (jtb_mem (c := 11) (i := 208) rfl) rfl) um15 okX40_work g_10 (fun _ _ => by rw [e_14]; exact ⟨rfl, rfl⟩) rfl rfl) (w.2.2.2.2.2.1 e_14) (fun v_13 h_11 _ _ _ w => ?_)
      exact w_X1_run_144 hK90 w
    · refine jw_gen (ls' := _) (st' := [vR 3 (jfr h_6 7 r0), vR 35 (jar h_6 r4 (ixn x6))]) (jgl_rf _ _) (And.intro (Or.inl rfl) (And.intro (Or.inr ⟨_, _, _, rfl, rfl, Or.inr (Or.inr (by rw [e_14]; rfl))⟩) (jgs_rf _ _))) ?_
      refine jw_cR (st := []) (sa := [vR 35 (jar h_6 r4 (ixn x6)), vR 3 (jfr h_6 7 r0)]) okX42_work rfl rfl rfl rfl rfl rfl (jstp_up (sa := [vR 3 (jfr h_6 7 r0)]) (st := []) rfl (lw_g (jtb_mem (c := 11) (i := 208) rfl) rfl) um16 okX42_work g_10 (fun _ _ => by rw [e_14]; exact ⟨rfl, rfl⟩) rfl rfl) (w.2.2.2.2.2.2 e_14) (fun v_13 h_11 _ _ _ w => ?_)
      exact w_X1_run_144 hK90 w
def L_X1_run_90 (D : JD) (d : Nat) (Q : JO → JH → Prop) : Nat → Nat → Nat → Int32 → Int32 → JH → Prop
  | 0 => fun _ _ _ _ _ => False
  | n + 1 => fun r0 r4 x5 x6 h => W_X1_run_90 D d Q (L_X1_run_90 D d Q n) r0 r4 x5 x6 h
theorem l_X1_run_90 {D : JD} {d : Nat} {Q : JO → JH → Prop} : ∀ (n : Nat) (r0 : Nat) (r4 : Nat) (x5 : Int32) (x6 : Int32) (h : JH), L_X1_run_90 D d Q n r0 r4 x5 x6 h → JW D (d + 1) mX1_run 90 [some (vR 1 r0), none, none, none, some (vR 81 r4), some (vI x5), some (vI x6), none, none, none] [] h Q := by
  intro n
  induction n with
  | zero => intro _ _ _ _ _ w; exact w.elim
  | succ n ih => intro _ _ _ _ h w; exact w_X1_run_90 ih w
def W_X1_run_87 (D : JD) (d : Nat) (Q : JO → JH → Prop) (r0 : Nat) (r4 : Nat) (x5 : Int32) (h : JH) : Prop :=
  ∃ n, L_X1_run_90 D d Q n r0 r4 x5 (0 : Int32) h
theorem w_X1_run_87 {D : JD} {d : Nat} {Q : JO → JH → Prop} {r0 : Nat} {r4 : Nat} {x5 : Int32} {h : JH} (w : W_X1_run_87 D d Q r0 r4 x5 h) : JW D (d + 1) mX1_run 87 [some (vR 1 r0), none, none, none, some (vR 81 r4), some (vI x5), none, none, none, none] [] h Q := by
  unfold W_X1_run_87 at w
  refine jw_iconst (pc' := 88) (x := (0 : Int32)) rfl rfl ?_
  refine jw_istore (pc' := 90) (ls' := [some (vR 1 r0), none, none, none, some (vR 81 r4), some (vI x5), some (vI (0 : Int32)), none, none, none]) rfl (by decide) rfl ?_
  obtain ⟨n, w⟩ := w
  exact l_X1_run_90 n _ _ _ _ _ w
def W_X1_run_35 (D : JD) (d : Nat) (Q : JO → JH → Prop) (K35 : Nat → Nat → Nat → Int32 → JH → Prop) (r0 : Nat) (r3 : Nat) (r4 : Nat) (x5 : Int32) (h : JH) : Prop :=
  r3 ≠ 0 ∧ (cX17_ended D d r3 h (pI D h (fun v_4 h_2 => (¬ v_4 = 0 → (¬ x5 = 0 → W_X1_run_87 D d Q r0 r4 x5 h_2) ∧ (x5 = 0 → r0 ≠ 0 ∧ ((jfr h_2 4 r0) ≠ 0 ∧ (cX2_plain D d (jfr h_2 4 r0) (73 : Int32) h_2 (pV D h_2 (fun h_9 => W_X1_run_87 D d Q r0 r4 x5 h_9) (jth Q)))))) ∧ (v_4 = 0 → (¬ x5 = (20 : Int32) → cX17_statement D d r3 h_2 (pR D h_2 57 (fun v_15 h_13 => r4 ≠ 0 ∧ jin x5 (jln h_13 r4) ∧ ∀ h_18 : JH, h_18 = war h_13 r4 (ixn x5) v_15 → (cX17_parts D d r3 h_18 (pV D h_18 (fun h_20 => K35 r0 r3 r4 (x5 + (1 : Int32)) h_20) (jth Q)))) (jth Q))) ∧ (x5 = (20 : Int32) → cX17_broken D d r3 h_2 (pR D h_2 9 (fun v_25 h_23 => v_25 ≠ 0 ∧ (Q (.inr v_25) h_23)) (jth Q))))) (jth Q)))
theorem w_X1_run_35 {D : JD} {d : Nat} {Q : JO → JH → Prop} {K35 : Nat → Nat → Nat → Int32 → JH → Prop} {r0 : Nat} {r3 : Nat} {r4 : Nat} {x5 : Int32} {h : JH} (hK35 : ∀ (r0 : Nat) (r3 : Nat) (r4 : Nat) (x5 : Int32) (h : JH), K35 r0 r3 r4 x5 h → JW D (d + 1) mX1_run 35 [some (vR 1 r0), none, none, some (vR 14 r3), some (vR 81 r4), some (vI x5), none, none, none, none] [] h Q) (w : W_X1_run_35 D d Q K35 r0 r3 r4 x5 h) : JW D (d + 1) mX1_run 35 [some (vR 1 r0), none, none, some (vR 14 r3), some (vR 81 r4), some (vI x5), none, none, none, none] [] h Q := by
  unfold W_X1_run_35 at w
  refine jw_aload_n (pc' := 36) rfl rfl ?_
  obtain ⟨g_1, w⟩ := w
  refine jw_cI (st := []) (sa := [vR 14 r3]) okX17_ended rfl rfl rfl rfl rfl rfl (jstp_virtual (sa := []) (st := []) (k := 0) rfl rfl sX17_ended okX17_ended g_1 (one14.k g_1) rfl rfl) w (fun v_4 h_2 _ _ w => ?_)
  refine jw_if_ne (tgt := 73) (pc' := 42) rfl rfl (fun c_5 => ?_) (fun c_5 => ?_)
  · replace w := w.1 c_5
    refine jw_iload (pc' := 75) rfl rfl ?_
    refine jw_if_ne (tgt := 87) (pc' := 78) rfl rfl (fun c_6 => ?_) (fun c_6 => ?_)
    · replace w := w.1 c_6
      refine jw_gen (ls' := [some (vR 1 r0), none, none, none, some (vR 81 r4), some (vI x5), none, none, none, none]) (st' := []) (And.intro (Or.inl rfl) (And.intro (Or.inl rfl) (And.intro (Or.inl rfl) (trivial)))) (trivial) ?_
      exact w_X1_run_87 w
    · replace w := w.2 c_6
      refine jw_aload_n (pc' := 79) rfl rfl ?_
      obtain ⟨g_7, w⟩ := w
      refine jw_getR (pc' := 82) (F := 4) (t' := 112) rfl rfl rfl rfl rfl g_7 ?_
      refine jw_bipush (pc' := 84) (x := (73 : Int32)) rfl rfl ?_
      obtain ⟨g_8, w⟩ := w
      refine jw_cV (st := []) (sa := [vR 112 (jfr h_2 4 r0), vI (73 : Int32)]) okX2_plain rfl rfl rfl rfl rfl rfl (jstp_virtual (sa := [vI (73 : Int32)]) (st := []) (k := 0) rfl rfl sX2_plain okX2_plain g_8 (one112.k g_8) rfl rfl) w (fun h_9 _ _ w => ?_)
      refine jw_gen (ls' := [some (vR 1 r0), none, none, none, some (vR 81 r4), some (vI x5), none, none, none, none]) (st' := []) (And.intro (Or.inl rfl) (And.intro (Or.inl rfl) (And.intro (Or.inl rfl) (trivial)))) (trivial) ?_
      exact w_X1_run_87 w
  · replace w := w.2 c_5
    refine jw_iload (pc' := 44) rfl rfl ?_
    refine jw_bipush (pc' := 46) (x := (20 : Int32)) rfl rfl ?_
    refine jw_icmp_ne (tgt := 54) (pc' := 49) rfl rfl (fun c_12 => ?_) (fun c_12 => ?_)
    · replace w := w.1 c_12
      refine jw_aload (pc' := 56) rfl rfl ?_
      refine jw_iload (pc' := 58) rfl rfl ?_
      refine jw_aload_n (pc' := 59) rfl rfl ?_
      refine jw_cR (st := [vI x5, vR 81 r4]) (sa := [vR 14 r3]) okX17_statement rfl rfl rfl rfl rfl rfl (jstp_virtual (sa := []) (st := [vI x5, vR 81 r4]) (k := 0) rfl rfl sX17_statement okX17_statement g_1 (one14.k g_1) rfl rfl) w (fun v_15 h_13 _ _ _ w => ?_)
      obtain ⟨g_16, w⟩ := w
      obtain ⟨g_17, w⟩ := w
      refine jw_aast' (pc' := 63) rfl rfl rfl rfl rfl rfl g_16 g_17 (fun h_18 e_19 => ?_)
      replace w := w h_18 e_19
      refine jw_iinc (pc' := 66) (y := x5 + (1 : Int32)) (ls' := [some (vR 1 r0), none, none, some (vR 14 r3), some (vR 81 r4), some (vI (x5 + (1 : Int32))), none, none, none, none]) rfl (by decide) rfl rfl rfl ?_
      refine jw_aload_n (pc' := 67) rfl rfl ?_
      refine jw_cV (st := []) (sa := [vR 14 r3]) okX17_parts rfl rfl rfl rfl rfl rfl (jstp_virtual (sa := []) (st := []) (k := 0) rfl rfl sX17_parts okX17_parts g_1 (one14.k g_1) rfl rfl) w (fun h_20 _ _ w => ?_)
      refine jw_goto (pc' := 35) rfl rfl ?_
      exact hK35 _ _ _ _ _ w
    · replace w := w.2 c_12
      refine jw_aload_n (pc' := 50) rfl rfl ?_
      refine jw_cR (st := []) (sa := [vR 14 r3]) okX17_broken rfl rfl rfl rfl rfl rfl (jstp_virtual (sa := []) (st := []) (k := 0) rfl rfl sX17_broken okX17_broken g_1 (one14.k g_1) rfl rfl) w (fun v_25 h_23 _ _ _ w => ?_)
      obtain ⟨g_26, w⟩ := w
      exact jw_athrow rfl rfl g_26 w
def L_X1_run_35 (D : JD) (d : Nat) (Q : JO → JH → Prop) : Nat → Nat → Nat → Nat → Int32 → JH → Prop
  | 0 => fun _ _ _ _ _ => False
  | n + 1 => fun r0 r3 r4 x5 h => W_X1_run_35 D d Q (L_X1_run_35 D d Q n) r0 r3 r4 x5 h
theorem l_X1_run_35 {D : JD} {d : Nat} {Q : JO → JH → Prop} : ∀ (n : Nat) (r0 : Nat) (r3 : Nat) (r4 : Nat) (x5 : Int32) (h : JH), L_X1_run_35 D d Q n r0 r3 r4 x5 h → JW D (d + 1) mX1_run 35 [some (vR 1 r0), none, none, some (vR 14 r3), some (vR 81 r4), some (vI x5), none, none, none, none] [] h Q := by
  intro n
  induction n with
  | zero => intro _ _ _ _ _ w; exact w.elim
  | succ n ih => intro _ _ _ _ h w; exact w_X1_run_35 ih w
def W_X1_run_0 (D : JD) (d : Nat) (Q : JO → JH → Prop) (r0 : Nat) (x1 : Int32) (x2 : Int32) (h : JH) : Prop :=
  ∀ (r_1 : Nat) (h_2 : JH), r_1 = jsz h + 1 → h_2 = nwo h 14 4 → (∀ (r_5 : Nat) (h_6 : JH), r_5 = jsz h_2 + 1 → h_6 = nwo h_2 15 9 → (r0 ≠ 0 ∧ (cX18_init D d r_5 (jfr h_6 2 r0) x1 x2 h_6 (pV D h_6 (fun h_10 => cX17_init D d r_1 r_5 h_10 (pV D h_10 (fun h_13 => ∀ (r_16 : Nat) (h_17 : JH), r_16 = jsz h_13 + 1 → h_17 = nwa h_13 81 20 → (cX17_parts D d r_1 h_17 (pV D h_17 (fun h_20 => ∃ n, L_X1_run_35 D d Q n r0 r_1 r_16 (0 : Int32) h_20) (jth Q)))) (jth Q))) (jth Q)))))
theorem w_X1_run_0 {D : JD} {d : Nat} {Q : JO → JH → Prop} {r0 : Nat} {x1 : Int32} {x2 : Int32} {h : JH} (w : W_X1_run_0 D d Q r0 x1 x2 h) : JW D (d + 1) mX1_run 0 [some (vR 1 r0), some (vI x1), some (vI x2), none, none, none, none, none, none, none] [] h Q := by
  unfold W_X1_run_0 at w
  refine jw_new' (pc' := 3) (k := 14) (n := 4) rfl rfl rfl rfl rfl rfl rfl (fun r_1 h_2 e_3 e_4 => ?_)
  replace w := w r_1 h_2 e_3 e_4
  refine jw_dup (pc' := 4) rfl rfl ?_
  refine jw_new' (pc' := 7) (k := 15) (n := 9) rfl rfl rfl rfl rfl rfl rfl (fun r_5 h_6 e_7 e_8 => ?_)
  replace w := w r_5 h_6 e_7 e_8
  refine jw_dup (pc' := 8) rfl rfl ?_
  refine jw_aload_n (pc' := 9) rfl rfl ?_
  obtain ⟨g_9, w⟩ := w
  refine jw_getR (pc' := 12) (F := 2) (t' := 123) rfl rfl rfl rfl rfl g_9 ?_
  refine jw_iload_n (pc' := 13) rfl rfl ?_
  refine jw_iload_n (pc' := 14) rfl rfl ?_
  refine jw_cV (st := [vR 15 r_5, vR 14 r_1, vR 14 r_1]) (sa := [vR 15 r_5, vR 123 (jfr h_6 2 r0), vI x1, vI x2]) okX18_init rfl rfl rfl rfl rfl rfl (jstp_init (sa := [vR 123 (jfr h_6 2 r0), vI x1, vI x2]) (st := [vR 15 r_5, vR 14 r_1, vR 14 r_1]) rfl rfl sX18_init okX18_init (lw_g (jtb_mem (c := 5) (i := 47) rfl) rfl) (jnz e_7) rfl rfl) w (fun h_10 _ _ w => ?_)
  refine jw_cV (st := [vR 14 r_1]) (sa := [vR 14 r_1, vR 15 r_5]) okX17_init rfl rfl rfl rfl rfl rfl (jstp_init (sa := [vR 15 r_5]) (st := [vR 14 r_1]) rfl rfl sX17_init okX17_init (lw_g (jtb_mem (c := 5) (i := 172) rfl) rfl) (jnz e_3) rfl rfl) w (fun h_13 _ _ w => ?_)
  refine jw_astore_n (pc' := 21) (ls' := [some (vR 1 r0), some (vI x1), some (vI x2), some (vR 14 r_1), none, none, none, none, none, none]) rfl (by decide) rfl ?_
  refine jw_bipush (pc' := 23) (x := (20 : Int32)) rfl rfl ?_
  refine jw_anew' (pc' := 26) (n := 20) (k := 81) rfl rfl rfl rfl rfl rfl rfl (jtb_mem (c := 5) (i := 188) rfl) ⟨by decide, rfl⟩ rfl (fun r_16 h_17 e_18 e_19 => ?_)
  replace w := w r_16 h_17 e_18 e_19
  refine jw_astore (pc' := 28) (ls' := [some (vR 1 r0), some (vI x1), some (vI x2), some (vR 14 r_1), some (vR 81 r_16), none, none, none, none, none]) rfl (by decide) rfl ?_
  refine jw_iconst (pc' := 29) (x := (0 : Int32)) rfl rfl ?_
  refine jw_istore (pc' := 31) (ls' := [some (vR 1 r0), some (vI x1), some (vI x2), some (vR 14 r_1), some (vR 81 r_16), some (vI (0 : Int32)), none, none, none, none]) rfl (by decide) rfl ?_
  refine jw_aload_n (pc' := 32) rfl rfl ?_
  refine jw_cV (st := []) (sa := [vR 14 r_1]) okX17_parts rfl rfl rfl rfl rfl rfl (jstp_virtual (sa := []) (st := []) (k := 0) rfl rfl sX17_parts okX17_parts (jnz e_3) (one14.k (jnz e_3)) rfl rfl) w (fun h_20 _ _ w => ?_)
  refine jw_gen (ls' := [some (vR 1 r0), none, none, some (vR 14 r_1), some (vR 81 r_16), some (vI (0 : Int32)), none, none, none, none]) (st' := []) (And.intro (Or.inl rfl) (And.intro (Or.inl rfl) (And.intro (Or.inl rfl) (And.intro (Or.inl rfl) (trivial))))) (trivial) ?_
  obtain ⟨n, w⟩ := w
  exact l_X1_run_35 n _ _ _ _ _ w
def T_X1_run (D : JD) (d : Nat) (Q : JO → JH → Prop) (r0 : Nat) (x1 : Int32) (x2 : Int32) (h : JH) : Prop := W_X1_run_0 D d Q r0 x1 x2 h
theorem t_X1_run {D : JD} {d : Nat} {Q : JO → JH → Prop} {r0 : Nat} {x1 : Int32} {x2 : Int32} {h : JH} (w : T_X1_run D d Q r0 x1 x2 h) : cX1_run D (d + 1) r0 x1 x2 h Q := by
  unfold T_X1_run at w
  unfold cX1_run
  exact w_X1_run_0 w
def W_X1_columns_20 (D : JD) (d : Nat) (Q : JO → JH → Prop) (K20 : Nat → Nat → Int32 → JH → Prop) (r0 : Nat) (r1 : Nat) (x2 : Int32) (h : JH) : Prop :=
  r1 ≠ 0 ∧ (((jfi h 159 r1) ≤ x2 → r0 ≠ 0 ∧ ((jfr h 4 r0) ≠ 0 ∧ (cX2_close D d (jfr h 4 r0) h (pV D h (fun h_5 => Q (.inl none) h_5) (jth Q))))) ∧ (¬ (jfi h 159 r1) ≤ x2 → (jfr h 156 r1) ≠ 0 ∧ jin x2 (jln h (jfr h 156 r1)) ∧ ((jar h (jfr h 156 r1) (ixn x2)) ≠ 0 ∧ (r0 ≠ 0 ∧ ((jfr h 158 r1) ≠ 0 ∧ jin x2 (jln h (jfr h 158 r1)) ∧ ((jfr h 4 r0) ≠ 0 ∧ (cX2_string D d (jfr h 4 r0) (jar h (jfr h 158 r1) (ixn x2)) h (pV D h (fun h_15 => (jfr h_15 4 r0) ≠ 0 ∧ (cX2_number D d (jfr h_15 4 r0) (0 : Int64) (6 : Int32) h_15 (pV D h_15 (fun h_19 => (jfr h 109 (jar h (jfr h 156 r1) (ixn x2))) ≠ 0 ∧ (cX15_number D d (jfr h 109 (jar h (jfr h 156 r1) (ixn x2))) h_19 (pI D h_19 (fun v_25 h_23 => (jfr h_19 4 r0) ≠ 0 ∧ (cX2_number D d (jfr h_19 4 r0) (Int32.toInt64 v_25) (4 : Int32) h_23 (pV D h_23 (fun h_27 => cX15_size D d (jfr h 109 (jar h (jfr h 156 r1) (ixn x2))) h_27 (pI D h_27 (fun v_32 h_30 => (jfr h_27 4 r0) ≠ 0 ∧ (cX2_number D d (jfr h_27 4 r0) (Int32.toInt64 v_32) (2 : Int32) h_30 (pV D h_30 (fun h_34 => (jfr h_34 4 r0) ≠ 0 ∧ (cX2_number D d (jfr h_34 4 r0) (-1 : Int64) (4 : Int32) h_34 (pV D h_34 (fun h_38 => (jfr h_38 4 r0) ≠ 0 ∧ (cX2_number D d (jfr h_38 4 r0) (0 : Int64) (2 : Int32) h_38 (pV D h_38 (fun h_42 => K20 r0 r1 (x2 + (1 : Int32)) h_42) (jth Q)))) (jth Q)))) (jth Q)))) (jth Q))) (jth Q)))) (jth Q)))) (jth Q)))) (jth Q)))))))))
theorem w_X1_columns_20 {D : JD} {d : Nat} {Q : JO → JH → Prop} {K20 : Nat → Nat → Int32 → JH → Prop} {r0 : Nat} {r1 : Nat} {x2 : Int32} {h : JH} (hK20 : ∀ (r0 : Nat) (r1 : Nat) (x2 : Int32) (h : JH), K20 r0 r1 x2 h → JW D (d + 1) mX1_columns 20 [some (vR 1 r0), some (vR 33 r1), some (vI x2), none] [] h Q) (w : W_X1_columns_20 D d Q K20 r0 r1 x2 h) : JW D (d + 1) mX1_columns 20 [some (vR 1 r0), some (vR 33 r1), some (vI x2), none] [] h Q := by
  unfold W_X1_columns_20 at w
  refine jw_iload_n (pc' := 21) rfl rfl ?_
  refine jw_aload_n (pc' := 22) rfl rfl ?_
  obtain ⟨g_1, w⟩ := w
  refine jw_getI (pc' := 25) (F := 159) rfl rfl rfl rfl g_1 ?_
  refine jw_icmp_ge (tgt := 113) (pc' := 28) rfl rfl (fun c_2 => ?_) (fun c_2 => ?_)
  · replace w := w.1 c_2
    refine jw_aload_n (pc' := 114) rfl rfl ?_
    obtain ⟨g_3, w⟩ := w
    refine jw_getR (pc' := 117) (F := 4) (t' := 112) rfl rfl rfl rfl rfl g_3 ?_
    obtain ⟨g_4, w⟩ := w
    refine jw_cV (st := []) (sa := [vR 112 (jfr h 4 r0)]) okX2_close rfl rfl rfl rfl rfl rfl (jstp_virtual (sa := []) (st := []) (k := 0) rfl rfl sX2_close okX2_close g_4 (one112.k g_4) rfl rfl) w (fun h_5 _ _ w => ?_)
    exact jw_return rfl rfl w
  · replace w := w.2 c_2
    refine jw_aload_n (pc' := 29) rfl rfl ?_
    refine jw_getR (pc' := 32) (F := 156) (t' := 158) rfl rfl rfl rfl rfl g_1 ?_
    refine jw_iload_n (pc' := 33) rfl rfl ?_
    obtain ⟨g_8, w⟩ := w
    obtain ⟨g_9, w⟩ := w
    refine jw_aald (pc' := 34) (t' := 55) rfl rfl rfl rfl g_8 g_9.ix g_9.2 ?_
    obtain ⟨g_10, w⟩ := w
    refine jw_getR (pc' := 37) (F := 109) (t' := 52) rfl rfl rfl rfl rfl g_10 ?_
    refine jw_astore_n (pc' := 38) (ls' := [some (vR 1 r0), some (vR 33 r1), some (vI x2), some (vR 52 (jfr h 109 (jar h (jfr h 156 r1) (ixn x2))))]) rfl (by decide) rfl ?_
    refine jw_aload_n (pc' := 39) rfl rfl ?_
    obtain ⟨g_11, w⟩ := w
    refine jw_getR (pc' := 42) (F := 4) (t' := 112) rfl rfl rfl rfl rfl g_11 ?_
    refine jw_aload_n (pc' := 43) rfl rfl ?_
    refine jw_getR (pc' := 46) (F := 158) (t' := 160) rfl rfl rfl rfl rfl g_1 ?_
    refine jw_iload_n (pc' := 47) rfl rfl ?_
    obtain ⟨g_12, w⟩ := w
    obtain ⟨g_13, w⟩ := w
    refine jw_aald (pc' := 48) (t' := 64) rfl rfl rfl rfl g_12 g_13.ix g_13.2 ?_
    obtain ⟨g_14, w⟩ := w
    refine jw_cV (st := []) (sa := [vR 112 (jfr h 4 r0), vR 64 (jar h (jfr h 158 r1) (ixn x2))]) okX2_string rfl rfl rfl rfl rfl rfl (jstp_virtual (sa := [vR 64 (jar h (jfr h 158 r1) (ixn x2))]) (st := []) (k := 0) rfl rfl sX2_string okX2_string g_14 (one112.k g_14) rfl rfl) w (fun h_15 _ _ w => ?_)
    refine jw_aload_n (pc' := 52) rfl rfl ?_
    refine jw_getR (pc' := 55) (F := 4) (t' := 112) rfl rfl rfl rfl rfl g_11 ?_
    refine jw_lconst (pc' := 56) (x := (0 : Int64)) rfl rfl ?_
    refine jw_bipush (pc' := 58) (x := (6 : Int32)) rfl rfl ?_
    obtain ⟨g_18, w⟩ := w
    refine jw_cV (st := []) (sa := [vR 112 (jfr h_15 4 r0), vL (0 : Int64), vI (6 : Int32)]) okX2_number rfl rfl rfl rfl rfl rfl (jstp_virtual (sa := [vL (0 : Int64), vI (6 : Int32)]) (st := []) (k := 0) rfl rfl sX2_number okX2_number g_18 (one112.k g_18) rfl rfl) w (fun h_19 _ _ w => ?_)
    refine jw_aload_n (pc' := 62) rfl rfl ?_
    refine jw_getR (pc' := 65) (F := 4) (t' := 112) rfl rfl rfl rfl rfl g_11 ?_
    refine jw_aload_n (pc' := 66) rfl rfl ?_
    obtain ⟨g_22, w⟩ := w
    refine jw_cI (st := [vR 112 (jfr h_19 4 r0)]) (sa := [vR 52 (jfr h 109 (jar h (jfr h 156 r1) (ixn x2)))]) okX15_number rfl rfl rfl rfl rfl rfl (jstp_virtual (sa := []) (st := [vR 112 (jfr h_19 4 r0)]) (k := 0) rfl rfl sX15_number okX15_number g_22 (one52.k g_22) rfl rfl) w (fun v_25 h_23 _ _ w => ?_)
    refine jw_i2l (pc' := 70) rfl ?_
    refine jw_iconst (pc' := 71) (x := (4 : Int32)) rfl rfl ?_
    obtain ⟨g_26, w⟩ := w
    refine jw_cV (st := []) (sa := [vR 112 (jfr h_19 4 r0), vL (Int32.toInt64 v_25), vI (4 : Int32)]) okX2_number rfl rfl rfl rfl rfl rfl (jstp_virtual (sa := [vL (Int32.toInt64 v_25), vI (4 : Int32)]) (st := []) (k := 0) rfl rfl sX2_number okX2_number g_26 (one112.k g_26) rfl rfl) w (fun h_27 _ _ w => ?_)
    refine jw_aload_n (pc' := 75) rfl rfl ?_
    refine jw_getR (pc' := 78) (F := 4) (t' := 112) rfl rfl rfl rfl rfl g_11 ?_
    refine jw_aload_n (pc' := 79) rfl rfl ?_
    refine jw_cI (st := [vR 112 (jfr h_27 4 r0)]) (sa := [vR 52 (jfr h 109 (jar h (jfr h 156 r1) (ixn x2)))]) okX15_size rfl rfl rfl rfl rfl rfl (jstp_virtual (sa := []) (st := [vR 112 (jfr h_27 4 r0)]) (k := 0) rfl rfl sX15_size okX15_size g_22 (one52.k g_22) rfl rfl) w (fun v_32 h_30 _ _ w => ?_)
    refine jw_i2l (pc' := 83) rfl ?_
    refine jw_iconst (pc' := 84) (x := (2 : Int32)) rfl rfl ?_
    obtain ⟨g_33, w⟩ := w
    refine jw_cV (st := []) (sa := [vR 112 (jfr h_27 4 r0), vL (Int32.toInt64 v_32), vI (2 : Int32)]) okX2_number rfl rfl rfl rfl rfl rfl (jstp_virtual (sa := [vL (Int32.toInt64 v_32), vI (2 : Int32)]) (st := []) (k := 0) rfl rfl sX2_number okX2_number g_33 (one112.k g_33) rfl rfl) w (fun h_34 _ _ w => ?_)
    refine jw_aload_n (pc' := 88) rfl rfl ?_
    refine jw_getR (pc' := 91) (F := 4) (t' := 112) rfl rfl rfl rfl rfl g_11 ?_
    refine jw_ldc2 (pc' := 94) (v := (-1 : Int64)) rfl rfl ?_
    refine jw_iconst (pc' := 95) (x := (4 : Int32)) rfl rfl ?_
    obtain ⟨g_37, w⟩ := w
    refine jw_cV (st := []) (sa := [vR 112 (jfr h_34 4 r0), vL (-1 : Int64), vI (4 : Int32)]) okX2_number rfl rfl rfl rfl rfl rfl (jstp_virtual (sa := [vL (-1 : Int64), vI (4 : Int32)]) (st := []) (k := 0) rfl rfl sX2_number okX2_number g_37 (one112.k g_37) rfl rfl) w (fun h_38 _ _ w => ?_)
    refine jw_aload_n (pc' := 99) rfl rfl ?_
    refine jw_getR (pc' := 102) (F := 4) (t' := 112) rfl rfl rfl rfl rfl g_11 ?_
    refine jw_lconst (pc' := 103) (x := (0 : Int64)) rfl rfl ?_
    refine jw_iconst (pc' := 104) (x := (2 : Int32)) rfl rfl ?_
    obtain ⟨g_41, w⟩ := w
    refine jw_cV (st := []) (sa := [vR 112 (jfr h_38 4 r0), vL (0 : Int64), vI (2 : Int32)]) okX2_number rfl rfl rfl rfl rfl rfl (jstp_virtual (sa := [vL (0 : Int64), vI (2 : Int32)]) (st := []) (k := 0) rfl rfl sX2_number okX2_number g_41 (one112.k g_41) rfl rfl) w (fun h_42 _ _ w => ?_)
    refine jw_iinc (pc' := 110) (y := x2 + (1 : Int32)) (ls' := [some (vR 1 r0), some (vR 33 r1), some (vI (x2 + (1 : Int32))), some (vR 52 (jfr h 109 (jar h (jfr h 156 r1) (ixn x2))))]) rfl (by decide) rfl rfl rfl ?_
    refine jw_goto (pc' := 20) rfl rfl ?_
    refine jw_gen (ls' := [some (vR 1 r0), some (vR 33 r1), some (vI (x2 + (1 : Int32))), none]) (st' := []) (And.intro (Or.inl rfl) (And.intro (Or.inl rfl) (And.intro (Or.inl rfl) (trivial)))) (trivial) ?_
    exact hK20 _ _ _ _ w
def L_X1_columns_20 (D : JD) (d : Nat) (Q : JO → JH → Prop) : Nat → Nat → Nat → Int32 → JH → Prop
  | 0 => fun _ _ _ _ => False
  | n + 1 => fun r0 r1 x2 h => W_X1_columns_20 D d Q (L_X1_columns_20 D d Q n) r0 r1 x2 h
theorem l_X1_columns_20 {D : JD} {d : Nat} {Q : JO → JH → Prop} : ∀ (n : Nat) (r0 : Nat) (r1 : Nat) (x2 : Int32) (h : JH), L_X1_columns_20 D d Q n r0 r1 x2 h → JW D (d + 1) mX1_columns 20 [some (vR 1 r0), some (vR 33 r1), some (vI x2), none] [] h Q := by
  intro n
  induction n with
  | zero => intro _ _ _ _ w; exact w.elim
  | succ n ih => intro _ _ _ h w; exact w_X1_columns_20 ih w
def W_X1_columns_0 (D : JD) (d : Nat) (Q : JO → JH → Prop) (r0 : Nat) (r1 : Nat) (h : JH) : Prop :=
  r0 ≠ 0 ∧ ((jfr h 4 r0) ≠ 0 ∧ (cX2_open D d (jfr h 4 r0) (84 : Int32) h (pR D h 2 (fun v_5 h_3 => r1 ≠ 0 ∧ (v_5 ≠ 0 ∧ (cX2_number D d v_5 (Int32.toInt64 (jfi h_3 159 r1)) (2 : Int32) h_3 (pV D h_3 (fun h_8 => ∃ n, L_X1_columns_20 D d Q n r0 r1 (0 : Int32) h_8) (jth Q))))) (jth Q))))
theorem w_X1_columns_0 {D : JD} {d : Nat} {Q : JO → JH → Prop} {r0 : Nat} {r1 : Nat} {h : JH} (w : W_X1_columns_0 D d Q r0 r1 h) : JW D (d + 1) mX1_columns 0 [some (vR 1 r0), some (vR 33 r1), none, none] [] h Q := by
  unfold W_X1_columns_0 at w
  refine jw_aload_n (pc' := 1) rfl rfl ?_
  obtain ⟨g_1, w⟩ := w
  refine jw_getR (pc' := 4) (F := 4) (t' := 112) rfl rfl rfl rfl rfl g_1 ?_
  refine jw_bipush (pc' := 6) (x := (84 : Int32)) rfl rfl ?_
  obtain ⟨g_2, w⟩ := w
  refine jw_cR (st := []) (sa := [vR 112 (jfr h 4 r0), vI (84 : Int32)]) okX2_open rfl rfl rfl rfl rfl rfl (jstp_virtual (sa := [vI (84 : Int32)]) (st := []) (k := 0) rfl rfl sX2_open okX2_open g_2 (one112.k g_2) rfl rfl) w (fun v_5 h_3 _ _ _ w => ?_)
  refine jw_aload_n (pc' := 10) rfl rfl ?_
  obtain ⟨g_6, w⟩ := w
  refine jw_getI (pc' := 13) (F := 159) rfl rfl rfl rfl g_6 ?_
  refine jw_i2l (pc' := 14) rfl ?_
  refine jw_iconst (pc' := 15) (x := (2 : Int32)) rfl rfl ?_
  obtain ⟨g_7, w⟩ := w
  refine jw_cV (st := []) (sa := [vR 2 v_5, vL (Int32.toInt64 (jfi h_3 159 r1)), vI (2 : Int32)]) okX2_number rfl rfl rfl rfl rfl rfl (jstp_virtual (sa := [vL (Int32.toInt64 (jfi h_3 159 r1)), vI (2 : Int32)]) (st := []) (k := 0) rfl rfl sX2_number okX2_number g_7 (one2.k g_7) rfl rfl) w (fun h_8 _ _ w => ?_)
  refine jw_iconst (pc' := 19) (x := (0 : Int32)) rfl rfl ?_
  refine jw_istore_n (pc' := 20) (ls' := [some (vR 1 r0), some (vR 33 r1), some (vI (0 : Int32)), none]) rfl (by decide) rfl ?_
  obtain ⟨n, w⟩ := w
  exact l_X1_columns_20 n _ _ _ _ w
def T_X1_columns (D : JD) (d : Nat) (Q : JO → JH → Prop) (r0 : Nat) (r1 : Nat) (h : JH) : Prop := W_X1_columns_0 D d Q r0 r1 h
theorem t_X1_columns {D : JD} {d : Nat} {Q : JO → JH → Prop} {r0 : Nat} {r1 : Nat} {h : JH} (w : T_X1_columns D d Q r0 r1 h) : cX1_columns D (d + 1) r0 r1 h Q := by
  unfold T_X1_columns at w
  unfold cX1_columns
  exact w_X1_columns_0 w
def W_X1_tag_0 (D : JD) (d : Nat) (Q : JO → JH → Prop) (r0 : Nat) (r1 : Nat) (h : JH) : Prop :=
  r0 ≠ 0 ∧ ((jfr h 4 r0) ≠ 0 ∧ (cX2_open D d (jfr h 4 r0) (67 : Int32) h (pR D h 2 (fun v_5 h_3 => v_5 ≠ 0 ∧ (cX2_string D d v_5 r1 h_3 (pV D h_3 (fun h_7 => (jfr h_7 4 r0) ≠ 0 ∧ (cX2_close D d (jfr h_7 4 r0) h_7 (pV D h_7 (fun h_11 => Q (.inl none) h_11) (jth Q)))) (jth Q)))) (jth Q))))
theorem w_X1_tag_0 {D : JD} {d : Nat} {Q : JO → JH → Prop} {r0 : Nat} {r1 : Nat} {h : JH} (w : W_X1_tag_0 D d Q r0 r1 h) : JW D (d + 1) mX1_tag 0 [some (vR 1 r0), some (vR 64 r1)] [] h Q := by
  unfold W_X1_tag_0 at w
  refine jw_aload_n (pc' := 1) rfl rfl ?_
  obtain ⟨g_1, w⟩ := w
  refine jw_getR (pc' := 4) (F := 4) (t' := 112) rfl rfl rfl rfl rfl g_1 ?_
  refine jw_bipush (pc' := 6) (x := (67 : Int32)) rfl rfl ?_
  obtain ⟨g_2, w⟩ := w
  refine jw_cR (st := []) (sa := [vR 112 (jfr h 4 r0), vI (67 : Int32)]) okX2_open rfl rfl rfl rfl rfl rfl (jstp_virtual (sa := [vI (67 : Int32)]) (st := []) (k := 0) rfl rfl sX2_open okX2_open g_2 (one112.k g_2) rfl rfl) w (fun v_5 h_3 _ _ _ w => ?_)
  refine jw_aload_n (pc' := 10) rfl rfl ?_
  obtain ⟨g_6, w⟩ := w
  refine jw_cV (st := []) (sa := [vR 2 v_5, vR 64 r1]) okX2_string rfl rfl rfl rfl rfl rfl (jstp_virtual (sa := [vR 64 r1]) (st := []) (k := 0) rfl rfl sX2_string okX2_string g_6 (one2.k g_6) rfl rfl) w (fun h_7 _ _ w => ?_)
  refine jw_aload_n (pc' := 14) rfl rfl ?_
  refine jw_getR (pc' := 17) (F := 4) (t' := 112) rfl rfl rfl rfl rfl g_1 ?_
  obtain ⟨g_10, w⟩ := w
  refine jw_cV (st := []) (sa := [vR 112 (jfr h_7 4 r0)]) okX2_close rfl rfl rfl rfl rfl rfl (jstp_virtual (sa := []) (st := []) (k := 0) rfl rfl sX2_close okX2_close g_10 (one112.k g_10) rfl rfl) w (fun h_11 _ _ w => ?_)
  exact jw_return rfl rfl w
def T_X1_tag (D : JD) (d : Nat) (Q : JO → JH → Prop) (r0 : Nat) (r1 : Nat) (h : JH) : Prop := W_X1_tag_0 D d Q r0 r1 h
theorem t_X1_tag {D : JD} {d : Nat} {Q : JO → JH → Prop} {r0 : Nat} {r1 : Nat} {h : JH} (w : T_X1_tag D d Q r0 r1 h) : cX1_tag D (d + 1) r0 r1 h Q := by
  unfold T_X1_tag at w
  unfold cX1_tag
  exact w_X1_tag_0 w
def W_X1_parse_51 (D : JD) (d : Nat) (Q : JO → JH → Prop) (r0 : Nat) (h : JH) : Prop :=
  r0 ≠ 0 ∧ (cX1_protocol D d r0 h (pR D h 9 (fun v_4 h_2 => v_4 ≠ 0 ∧ (Q (.inr v_4) h_2)) (jth Q)))
theorem w_X1_parse_51 {D : JD} {d : Nat} {Q : JO → JH → Prop} {r0 : Nat} {h : JH} (w : W_X1_parse_51 D d Q r0 h) : JW D (d + 1) mX1_parse 51 [some (vR 1 r0), none, none, none, none, none, none, none, none] [] h Q := by
  unfold W_X1_parse_51 at w
  refine jw_aload_n (pc' := 52) rfl rfl ?_
  obtain ⟨g_1, w⟩ := w
  refine jw_cR (st := []) (sa := [vR 1 r0]) okX1_protocol rfl rfl rfl rfl rfl rfl (jstp_virtual (sa := []) (st := []) (k := 0) rfl rfl sX1_protocol okX1_protocol g_1 (one1.k g_1) rfl rfl) w (fun v_4 h_2 _ _ _ w => ?_)
  obtain ⟨g_5, w⟩ := w
  exact jw_athrow rfl rfl g_5 w
def W_X1_parse_296 (D : JD) (d : Nat) (Q : JO → JH → Prop) (r0 : Nat) (r1 : Nat) (x8 : Int32) (h : JH) : Prop :=
  r0 ≠ 0 ∧ ((jfr h 8 r0) ≠ 0 ∧ jin x8 (jln h (jfr h 8 r0)) ∧ ∀ h_4 : JH, h_4 = war h (jfr h 8 r0) (ixn x8) r1 → ((jfr h_4 4 r0) ≠ 0 ∧ (cX2_plain D d (jfr h_4 4 r0) (49 : Int32) h_4 (pV D h_4 (fun h_7 => Q (.inl none) h_7) (jth Q)))))
theorem w_X1_parse_296 {D : JD} {d : Nat} {Q : JO → JH → Prop} {r0 : Nat} {r1 : Nat} {x8 : Int32} {h : JH} (w : W_X1_parse_296 D d Q r0 r1 x8 h) : JW D (d + 1) mX1_parse 296 [some (vR 1 r0), some (vR 36 r1), none, none, none, none, none, none, some (vI x8)] [] h Q := by
  unfold W_X1_parse_296 at w
  refine jw_aload_n (pc' := 297) rfl rfl ?_
  obtain ⟨g_1, w⟩ := w
  refine jw_getR (pc' := 300) (F := 8) (t' := 124) rfl rfl rfl rfl rfl g_1 ?_
  refine jw_iload (pc' := 302) rfl rfl ?_
  refine jw_aload_n (pc' := 303) rfl rfl ?_
  obtain ⟨g_2, w⟩ := w
  obtain ⟨g_3, w⟩ := w
  refine jw_aast' (pc' := 304) rfl rfl rfl rfl rfl rfl g_2 g_3 (fun h_4 e_5 => ?_)
  replace w := w h_4 e_5
  refine jw_aload_n (pc' := 305) rfl rfl ?_
  refine jw_getR (pc' := 308) (F := 4) (t' := 112) rfl rfl rfl rfl rfl g_1 ?_
  refine jw_bipush (pc' := 310) (x := (49 : Int32)) rfl rfl ?_
  obtain ⟨g_6, w⟩ := w
  refine jw_cV (st := []) (sa := [vR 112 (jfr h_4 4 r0), vI (49 : Int32)]) okX2_plain rfl rfl rfl rfl rfl rfl (jstp_virtual (sa := [vI (49 : Int32)]) (st := []) (k := 0) rfl rfl sX2_plain okX2_plain g_6 (one112.k g_6) rfl rfl) w (fun h_7 _ _ w => ?_)
  exact jw_return rfl rfl w
def W_X1_parse_275 (D : JD) (d : Nat) (Q : JO → JH → Prop) (r0 : Nat) (r1 : Nat) (x8 : Int32) (h : JH) : Prop :=
  (0 ≤ x8 → W_X1_parse_296 D d Q r0 r1 x8 h) ∧ (¬ 0 ≤ x8 → r0 ≠ 0 ∧ (∀ h_3 : JH, h_3 = wfi h 9 r0 ((jfi h 9 r0) + (1 : Int32)) → (W_X1_parse_296 D d Q r0 r1 (jfi h 9 r0) h_3)))
theorem w_X1_parse_275 {D : JD} {d : Nat} {Q : JO → JH → Prop} {r0 : Nat} {r1 : Nat} {x8 : Int32} {h : JH} (w : W_X1_parse_275 D d Q r0 r1 x8 h) : JW D (d + 1) mX1_parse 275 [some (vR 1 r0), some (vR 36 r1), none, none, none, none, none, none, some (vI x8)] [] h Q := by
  unfold W_X1_parse_275 at w
  refine jw_iload (pc' := 277) rfl rfl ?_
  refine jw_if_ge (tgt := 296) (pc' := 280) rfl rfl (fun c_1 => ?_) (fun c_1 => ?_)
  · replace w := w.1 c_1
    exact w_X1_parse_296 w
  · replace w := w.2 c_1
    refine jw_aload_n (pc' := 281) rfl rfl ?_
    obtain ⟨g_2, w⟩ := w
    refine jw_getI (pc' := 284) (F := 9) rfl rfl rfl rfl g_2 ?_
    refine jw_istore (pc' := 286) (ls' := [some (vR 1 r0), some (vR 36 r1), none, none, none, none, none, none, some (vI (jfi h 9 r0))]) rfl (by decide) rfl ?_
    refine jw_aload_n (pc' := 287) rfl rfl ?_
    refine jw_dup (pc' := 288) rfl rfl ?_
    refine jw_getI (pc' := 291) (F := 9) rfl rfl rfl rfl g_2 ?_
    refine jw_iconst (pc' := 292) (x := (1 : Int32)) rfl rfl ?_
    refine jw_iadd (pc' := 293) rfl ?_
    refine jw_putI' (pc' := 296) (F := 9) rfl rfl rfl (Or.inr rfl) (Or.inl rfl) rfl (rfl) (rfl) rfl g_2 (fun h_3 e_4 => ?_)
    replace w := w h_3 e_4
    exact w_X1_parse_296 w
def W_X1_parse_254 (D : JD) (d : Nat) (Q : JO → JH → Prop) (r0 : Nat) (r1 : Nat) (x8 : Int32) (h : JH) : Prop :=
  (0 ≤ x8 → W_X1_parse_275 D d Q r0 r1 x8 h) ∧ (¬ 0 ≤ x8 → r0 ≠ 0 ∧ ((¬ (jfi h 9 r0) = (10 : Int32) → W_X1_parse_275 D d Q r0 r1 x8 h) ∧ ((jfi h 9 r0) = (10 : Int32) → cX1_fault D d (jcs D 205) h (pR D h 9 (fun v_6 h_4 => v_6 ≠ 0 ∧ (Q (.inr v_6) h_4)) (jth Q)))))
theorem w_X1_parse_254 {D : JD} {d : Nat} {Q : JO → JH → Prop} {r0 : Nat} {r1 : Nat} {x8 : Int32} {h : JH} (w : W_X1_parse_254 D d Q r0 r1 x8 h) : JW D (d + 1) mX1_parse 254 [some (vR 1 r0), some (vR 36 r1), none, none, none, none, none, none, some (vI x8)] [] h Q := by
  unfold W_X1_parse_254 at w
  refine jw_iload (pc' := 256) rfl rfl ?_
  refine jw_if_ge (tgt := 275) (pc' := 259) rfl rfl (fun c_1 => ?_) (fun c_1 => ?_)
  · replace w := w.1 c_1
    exact w_X1_parse_275 w
  · replace w := w.2 c_1
    refine jw_aload_n (pc' := 260) rfl rfl ?_
    obtain ⟨g_2, w⟩ := w
    refine jw_getI (pc' := 263) (F := 9) rfl rfl rfl rfl g_2 ?_
    refine jw_bipush (pc' := 265) (x := (10 : Int32)) rfl rfl ?_
    refine jw_icmp_ne (tgt := 275) (pc' := 268) rfl rfl (fun c_3 => ?_) (fun c_3 => ?_)
    · replace w := w.1 c_3
      exact w_X1_parse_275 w
    · replace w := w.2 c_3
      refine jw_ldcwS (pc' := 271) rfl rfl rfl rfl ?_
      refine jw_cR (st := []) (sa := [vR 51 (jcs D 205)]) okX1_fault rfl rfl rfl rfl rfl rfl (jstp_static (sa := [vR 51 (jcs D 205)]) (st := []) rfl rfl sX1_fault okX1_fault rfl rfl) w (fun v_6 h_4 _ _ _ w => ?_)
      obtain ⟨g_7, w⟩ := w
      exact jw_athrow rfl rfl g_7 w
def W_X1_parse_197 (D : JD) (d : Nat) (Q : JO → JH → Prop) (K197 : Nat → Nat → Nat → Int32 → Int32 → JH → Prop) (r0 : Nat) (r1 : Nat) (r5 : Nat) (x7 : Int32) (x8 : Int32) (h : JH) : Prop :=
  (x7 ≤ x8 → r1 ≠ 0 ∧ (r0 ≠ 0 ∧ (cX1_statement D d r0 (jfr h 166 r1) h (pI D h (fun v_6 h_4 => (v_6 < 0 → W_X1_parse_254 D d Q r0 r1 v_6 h_4) ∧ (¬ v_6 < 0 → (jfr h_4 166 r1) ≠ 0 ∧ (cJ5_length D d (jfr h_4 166 r1) h_4 (pI D h_4 (fun v_11 h_9 => (v_11 ≤ 0 → W_X1_parse_254 D d Q r0 r1 v_6 h_9) ∧ (¬ v_11 ≤ 0 → cX1_fault D d (jcs D 204) h_9 (pR D h_9 9 (fun v_15 h_13 => v_15 ≠ 0 ∧ (Q (.inr v_15) h_13)) (jth Q)))) (jth Q))))) (jth Q))))) ∧ (¬ x7 ≤ x8 → r1 ≠ 0 ∧ (r5 ≠ 0 ∧ jin x8 (jln h r5) ∧ ((jfr h 168 r1) ≠ 0 ∧ jin x8 (jln h (jfr h 168 r1)) ∧ ∀ h_22 : JH, h_22 = war h (jfr h 168 r1) (ixn x8) (jar h r5 (ixn x8)) → (K197 r0 r1 r5 x7 (x8 + (1 : Int32)) h_22))))
theorem w_X1_parse_197 {D : JD} {d : Nat} {Q : JO → JH → Prop} {K197 : Nat → Nat → Nat → Int32 → Int32 → JH → Prop} {r0 : Nat} {r1 : Nat} {r5 : Nat} {x7 : Int32} {x8 : Int32} {h : JH} (hK197 : ∀ (r0 : Nat) (r1 : Nat) (r5 : Nat) (x7 : Int32) (x8 : Int32) (h : JH), K197 r0 r1 r5 x7 x8 h → JW D (d + 1) mX1_parse 197 [some (vR 1 r0), some (vR 36 r1), none, none, none, some (vR 75 r5), none, some (vI x7), some (vI x8)] [] h Q) (w : W_X1_parse_197 D d Q K197 r0 r1 r5 x7 x8 h) : JW D (d + 1) mX1_parse 197 [some (vR 1 r0), some (vR 36 r1), none, none, none, some (vR 75 r5), none, some (vI x7), some (vI x8)] [] h Q := by
  unfold W_X1_parse_197 at w
  refine jw_iload (pc' := 199) rfl rfl ?_
  refine jw_iload (pc' := 201) rfl rfl ?_
  refine jw_icmp_ge (tgt := 222) (pc' := 204) rfl rfl (fun c_1 => ?_) (fun c_1 => ?_)
  · replace w := w.1 c_1
    refine jw_aload_n (pc' := 223) rfl rfl ?_
    refine jw_aload_n (pc' := 224) rfl rfl ?_
    obtain ⟨g_2, w⟩ := w
    refine jw_getR (pc' := 227) (F := 166) (t' := 64) rfl rfl rfl rfl rfl g_2 ?_
    obtain ⟨g_3, w⟩ := w
    refine jw_cI (st := []) (sa := [vR 1 r0, vR 64 (jfr h 166 r1)]) okX1_statement rfl rfl rfl rfl rfl rfl (jstp_virtual (sa := [vR 64 (jfr h 166 r1)]) (st := []) (k := 0) rfl rfl sX1_statement okX1_statement g_3 (one1.k g_3) rfl rfl) w (fun v_6 h_4 _ _ w => ?_)
    refine jw_istore (pc' := 232) (ls' := [some (vR 1 r0), some (vR 36 r1), none, none, none, some (vR 75 r5), none, some (vI x7), some (vI v_6)]) rfl (by decide) rfl ?_
    refine jw_iload (pc' := 234) rfl rfl ?_
    refine jw_if_lt (tgt := 254) (pc' := 237) rfl rfl (fun c_7 => ?_) (fun c_7 => ?_)
    · replace w := w.1 c_7
      refine jw_gen (ls' := [some (vR 1 r0), some (vR 36 r1), none, none, none, none, none, none, some (vI v_6)]) (st' := []) (And.intro (Or.inl rfl) (And.intro (Or.inl rfl) (And.intro (Or.inl rfl) (trivial)))) (trivial) ?_
      exact w_X1_parse_254 w
    · replace w := w.2 c_7
      refine jw_aload_n (pc' := 238) rfl rfl ?_
      refine jw_getR (pc' := 241) (F := 166) (t' := 64) rfl rfl rfl rfl rfl g_2 ?_
      obtain ⟨g_8, w⟩ := w
      refine jw_cI (st := []) (sa := [vR 64 (jfr h_4 166 r1)]) okJ5_length rfl rfl rfl rfl rfl rfl (jstp_virtual (sa := []) (st := []) (k := 0) rfl rfl sJ5_length okJ5_length g_8 (one64.k g_8) rfl rfl) w (fun v_11 h_9 _ _ w => ?_)
      refine jw_if_le (tgt := 254) (pc' := 247) rfl rfl (fun c_12 => ?_) (fun c_12 => ?_)
      · replace w := w.1 c_12
        refine jw_gen (ls' := [some (vR 1 r0), some (vR 36 r1), none, none, none, none, none, none, some (vI v_6)]) (st' := []) (And.intro (Or.inl rfl) (And.intro (Or.inl rfl) (And.intro (Or.inl rfl) (trivial)))) (trivial) ?_
        exact w_X1_parse_254 w
      · replace w := w.2 c_12
        refine jw_ldcwS (pc' := 250) rfl rfl rfl rfl ?_
        refine jw_cR (st := []) (sa := [vR 51 (jcs D 204)]) okX1_fault rfl rfl rfl rfl rfl rfl (jstp_static (sa := [vR 51 (jcs D 204)]) (st := []) rfl rfl sX1_fault okX1_fault rfl rfl) w (fun v_15 h_13 _ _ _ w => ?_)
        obtain ⟨g_16, w⟩ := w
        exact jw_athrow rfl rfl g_16 w
  · replace w := w.2 c_1
    refine jw_aload_n (pc' := 205) rfl rfl ?_
    obtain ⟨g_17, w⟩ := w
    refine jw_getR (pc' := 208) (F := 168) (t' := 161) rfl rfl rfl rfl rfl g_17 ?_
    refine jw_iload (pc' := 210) rfl rfl ?_
    refine jw_aload (pc' := 212) rfl rfl ?_
    refine jw_iload (pc' := 214) rfl rfl ?_
    obtain ⟨g_18, w⟩ := w
    obtain ⟨g_19, w⟩ := w
    refine jw_aald (pc' := 215) (t' := 52) rfl rfl rfl rfl g_18 g_19.ix g_19.2 ?_
    obtain ⟨g_20, w⟩ := w
    obtain ⟨g_21, w⟩ := w
    refine jw_aast' (pc' := 216) rfl rfl rfl rfl rfl rfl g_20 g_21 (fun h_22 e_23 => ?_)
    replace w := w h_22 e_23
    refine jw_iinc (pc' := 219) (y := x8 + (1 : Int32)) (ls' := [some (vR 1 r0), some (vR 36 r1), none, none, none, some (vR 75 r5), none, some (vI x7), some (vI (x8 + (1 : Int32)))]) rfl (by decide) rfl rfl rfl ?_
    refine jw_goto (pc' := 197) rfl rfl ?_
    exact hK197 _ _ _ _ _ _ w
def L_X1_parse_197 (D : JD) (d : Nat) (Q : JO → JH → Prop) : Nat → Nat → Nat → Nat → Int32 → Int32 → JH → Prop
  | 0 => fun _ _ _ _ _ _ => False
  | n + 1 => fun r0 r1 r5 x7 x8 h => W_X1_parse_197 D d Q (L_X1_parse_197 D d Q n) r0 r1 r5 x7 x8 h
theorem l_X1_parse_197 {D : JD} {d : Nat} {Q : JO → JH → Prop} : ∀ (n : Nat) (r0 : Nat) (r1 : Nat) (r5 : Nat) (x7 : Int32) (x8 : Int32) (h : JH), L_X1_parse_197 D d Q n r0 r1 r5 x7 x8 h → JW D (d + 1) mX1_parse 197 [some (vR 1 r0), some (vR 36 r1), none, none, none, some (vR 75 r5), none, some (vI x7), some (vI x8)] [] h Q := by
  intro n
  induction n with
  | zero => intro _ _ _ _ _ _ w; exact w.elim
  | succ n ih => intro _ _ _ _ _ h w; exact w_X1_parse_197 ih w
def W_X1_parse_173 (D : JD) (d : Nat) (Q : JO → JH → Prop) (r0 : Nat) (r1 : Nat) (x4 : Int32) (r5 : Nat) (r6 : Nat) (h : JH) : Prop :=
  r6 ≠ 0 ∧ (cX17_parameters D d r6 h (pI D h (fun v_4 h_2 => cJ15_max D d x4 v_4 h_2 (pI D h_2 (fun v_7 h_5 => jsm v_7 ∧ ∀ (r_8 : Nat) (h_9 : JH), r_8 = jsz h_5 + 1 → h_9 = nwa h_5 161 (ixn v_7) → (r1 ≠ 0 ∧ ∀ h_14 : JH, h_14 = wfr h_9 168 r1 r_8 → (∃ n, L_X1_parse_197 D d Q n r0 r1 r5 v_7 (0 : Int32) h_14))) (jth Q))) (jth Q)))
theorem w_X1_parse_173 {D : JD} {d : Nat} {Q : JO → JH → Prop} {r0 : Nat} {r1 : Nat} {x4 : Int32} {r5 : Nat} {r6 : Nat} {h : JH} (w : W_X1_parse_173 D d Q r0 r1 x4 r5 r6 h) : JW D (d + 1) mX1_parse 173 [some (vR 1 r0), some (vR 36 r1), none, none, some (vI x4), some (vR 75 r5), some (vR 14 r6), none, none] [] h Q := by
  unfold W_X1_parse_173 at w
  refine jw_iload (pc' := 175) rfl rfl ?_
  refine jw_aload (pc' := 177) rfl rfl ?_
  obtain ⟨g_1, w⟩ := w
  refine jw_cI (st := [vI x4]) (sa := [vR 14 r6]) okX17_parameters rfl rfl rfl rfl rfl rfl (jstp_virtual (sa := []) (st := [vI x4]) (k := 0) rfl rfl sX17_parameters okX17_parameters g_1 (one14.k g_1) rfl rfl) w (fun v_4 h_2 _ _ w => ?_)
  refine jw_cI (st := []) (sa := [vI x4, vI v_4]) okJ15_max rfl rfl rfl rfl rfl rfl (jstp_static (sa := [vI x4, vI v_4]) (st := []) rfl rfl sJ15_max okJ15_max rfl rfl) w (fun v_7 h_5 _ _ w => ?_)
  refine jw_istore (pc' := 185) (ls' := [some (vR 1 r0), some (vR 36 r1), none, none, some (vI x4), some (vR 75 r5), some (vR 14 r6), some (vI v_7), none]) rfl (by decide) rfl ?_
  refine jw_aload_n (pc' := 186) rfl rfl ?_
  refine jw_iload (pc' := 188) rfl rfl ?_
  obtain ⟨g_12, w⟩ := w
  refine jw_anew' (pc' := 191) (n := ixn v_7) (k := 161) rfl rfl rfl rfl rfl rfl rfl (jtb_mem (c := 1) (i := 176) rfl) g_12.ix g_12.b (fun r_8 h_9 e_10 e_11 => ?_)
  replace w := w r_8 h_9 e_10 e_11
  obtain ⟨g_13, w⟩ := w
  refine jw_putR' (pc' := 194) (F := 168) rfl rfl rfl (Or.inr rfl) (Or.inl rfl) rfl rfl rfl g_13 (fun h_14 e_15 => ?_)
  replace w := w h_14 e_15
  refine jw_iconst (pc' := 195) (x := (0 : Int32)) rfl rfl ?_
  refine jw_istore (pc' := 197) (ls' := [some (vR 1 r0), some (vR 36 r1), none, none, some (vI x4), some (vR 75 r5), some (vR 14 r6), some (vI v_7), some (vI (0 : Int32))]) rfl (by decide) rfl ?_
  refine jw_gen (ls' := [some (vR 1 r0), some (vR 36 r1), none, none, none, some (vR 75 r5), none, some (vI v_7), some (vI (0 : Int32))]) (st' := []) (And.intro (Or.inl rfl) (And.intro (Or.inl rfl) (And.intro (Or.inl rfl) (And.intro (Or.inl rfl) (And.intro (Or.inl rfl) (trivial)))))) (trivial) ?_
  obtain ⟨n, w⟩ := w
  exact l_X1_parse_197 n _ _ _ _ _ _ w
def W_X1_parse_99 (D : JD) (d : Nat) (Q : JO → JH → Prop) (K66 : Nat → Nat → Int32 → Int32 → Int32 → Nat → Int32 → JH → Prop) (r0 : Nat) (r1 : Nat) (x2 : Int32) (x3 : Int32) (x4 : Int32) (r5 : Nat) (x6 : Int32) (q0 : Nat) (s1 : Int32) (q2 : Nat) (h : JH) : Prop :=
  q0 ≠ 0 ∧ jin s1 (jln h q0) ∧ ∀ h_3 : JH, h_3 = war h q0 (ixn s1) q2 → (K66 r0 r1 x2 x3 x4 r5 (x6 + (1 : Int32)) h_3)
theorem w_X1_parse_99 {D : JD} {d : Nat} {Q : JO → JH → Prop} {K66 : Nat → Nat → Int32 → Int32 → Int32 → Nat → Int32 → JH → Prop} {r0 : Nat} {r1 : Nat} {x2 : Int32} {x3 : Int32} {x4 : Int32} {r5 : Nat} {x6 : Int32} {q0 : Nat} {s1 : Int32} {q2 : Nat} {h : JH} (hK66 : ∀ (r0 : Nat) (r1 : Nat) (x2 : Int32) (x3 : Int32) (x4 : Int32) (r5 : Nat) (x6 : Int32) (h : JH), K66 r0 r1 x2 x3 x4 r5 x6 h → JW D (d + 1) mX1_parse 66 [some (vR 1 r0), some (vR 36 r1), some (vI x2), some (vI x3), some (vI x4), some (vR 75 r5), some (vI x6), none, none] [] h Q) (w : W_X1_parse_99 D d Q K66 r0 r1 x2 x3 x4 r5 x6 q0 s1 q2 h) : JW D (d + 1) mX1_parse 99 [some (vR 1 r0), some (vR 36 r1), some (vI x2), some (vI x3), some (vI x4), some (vR 75 r5), some (vI x6), none, none] [vR 52 q2, vI s1, vR 75 q0] h Q := by
  unfold W_X1_parse_99 at w
  obtain ⟨g_1, w⟩ := w
  obtain ⟨g_2, w⟩ := w
  refine jw_aast' (pc' := 100) rfl rfl rfl rfl rfl rfl g_1 g_2 (fun h_3 e_4 => ?_)
  replace w := w h_3 e_4
  refine jw_iinc (pc' := 103) (y := x6 + (1 : Int32)) (ls' := [some (vR 1 r0), some (vR 36 r1), some (vI x2), some (vI x3), some (vI x4), some (vR 75 r5), some (vI (x6 + (1 : Int32))), none, none]) rfl (by decide) rfl rfl rfl ?_
  refine jw_goto (pc' := 66) rfl rfl ?_
  exact hK66 _ _ _ _ _ _ _ _ w
def W_X1_parse_66 (D : JD) (d : Nat) (Q : JO → JH → Prop) (K66 : Nat → Nat → Int32 → Int32 → Int32 → Nat → Int32 → JH → Prop) (r0 : Nat) (r1 : Nat) (x2 : Int32) (x3 : Int32) (x4 : Int32) (r5 : Nat) (x6 : Int32) (h : JH) : Prop :=
  ((8 : Int32) ≤ x6 → r0 ≠ 0 ∧ (cX1_all D d r0 h (pV D h (fun h_3 => ∀ (r_6 : Nat) (h_7 : JH), r_6 = jsz h_3 + 1 → h_7 = nwo h_3 14 4 → (∀ (r_10 : Nat) (h_11 : JH), r_10 = jsz h_7 + 1 → h_11 = nwo h_7 15 9 → (cX18_init D d r_10 (jfr h_11 2 r0) x2 x3 h_11 (pV D h_11 (fun h_14 => cX17_init D d r_6 r_10 h_14 (pV D h_14 (fun h_17 => cX17_parts D d r_6 h_17 (pV D h_17 (fun h_20 => cX17_ended D d r_6 h_20 (pI D h_20 (fun v_25 h_23 => (¬ v_25 = 0 → W_X1_parse_173 D d Q r0 r1 x4 r5 r_6 h_23) ∧ (v_25 = 0 → cX17_statement D d r_6 h_23 (pR D h_23 57 (fun v_29 h_27 => r1 ≠ 0 ∧ ∀ h_31 : JH, h_31 = wfr h_27 167 r1 v_29 → (cX17_parts D d r_6 h_31 (pV D h_31 (fun h_33 => cX17_ended D d r_6 h_33 (pI D h_33 (fun v_38 h_36 => (¬ v_38 = 0 → W_X1_parse_173 D d Q r0 r1 x4 r5 r_6 h_36) ∧ (v_38 = 0 → cX17_broken D d r_6 h_36 (pR D h_36 9 (fun v_42 h_40 => v_42 ≠ 0 ∧ (Q (.inr v_42) h_40)) (jth Q)))) (jth Q))) (jth Q)))) (jth Q)))) (jth Q))) (jth Q))) (jth Q))) (jth Q))))) (jth Q)))) ∧ (¬ (8 : Int32) ≤ x6 → (x4 ≤ x6 → W_X1_parse_99 D d Q K66 r0 r1 x2 x3 x4 r5 x6 r5 x6 (jcs D 346) h) ∧ (¬ x4 ≤ x6 → r0 ≠ 0 ∧ (cX1_number D d r0 (4 : Int32) h (pL D h (fun v_47 h_46 => cX1_type D d r0 v_47 h_46 (pR D h_46 52 (fun v_50 h_48 => W_X1_parse_99 D d Q K66 r0 r1 x2 x3 x4 r5 x6 r5 x6 v_50 h_48) (jth Q))) (jth Q)))))
theorem w_X1_parse_66 {D : JD} {d : Nat} {Q : JO → JH → Prop} {K66 : Nat → Nat → Int32 → Int32 → Int32 → Nat → Int32 → JH → Prop} {r0 : Nat} {r1 : Nat} {x2 : Int32} {x3 : Int32} {x4 : Int32} {r5 : Nat} {x6 : Int32} {h : JH} (hK66 : ∀ (r0 : Nat) (r1 : Nat) (x2 : Int32) (x3 : Int32) (x4 : Int32) (r5 : Nat) (x6 : Int32) (h : JH), K66 r0 r1 x2 x3 x4 r5 x6 h → JW D (d + 1) mX1_parse 66 [some (vR 1 r0), some (vR 36 r1), some (vI x2), some (vI x3), some (vI x4), some (vR 75 r5), some (vI x6), none, none] [] h Q) (w : W_X1_parse_66 D d Q K66 r0 r1 x2 x3 x4 r5 x6 h) : JW D (d + 1) mX1_parse 66 [some (vR 1 r0), some (vR 36 r1), some (vI x2), some (vI x3), some (vI x4), some (vR 75 r5), some (vI x6), none, none] [] h Q := by
  unfold W_X1_parse_66 at w
  refine jw_iload (pc' := 68) rfl rfl ?_
  refine jw_bipush (pc' := 70) (x := (8 : Int32)) rfl rfl ?_
  refine jw_icmp_ge (tgt := 106) (pc' := 73) rfl rfl (fun c_1 => ?_) (fun c_1 => ?_)
  · replace w := w.1 c_1
    refine jw_aload_n (pc' := 107) rfl rfl ?_
    obtain ⟨g_2, w⟩ := w
    refine jw_cV (st := []) (sa := [vR 1 r0]) okX1_all rfl rfl rfl rfl rfl rfl (jstp_virtual (sa := []) (st := []) (k := 0) rfl rfl sX1_all okX1_all g_2 (one1.k g_2) rfl rfl) w (fun h_3 _ _ w => ?_)
    refine jw_new' (pc' := 113) (k := 14) (n := 4) rfl rfl rfl rfl rfl rfl rfl (fun r_6 h_7 e_8 e_9 => ?_)
    replace w := w r_6 h_7 e_8 e_9
    refine jw_dup (pc' := 114) rfl rfl ?_
    refine jw_new' (pc' := 117) (k := 15) (n := 9) rfl rfl rfl rfl rfl rfl rfl (fun r_10 h_11 e_12 e_13 => ?_)
    replace w := w r_10 h_11 e_12 e_13
    refine jw_dup (pc' := 118) rfl rfl ?_
    refine jw_aload_n (pc' := 119) rfl rfl ?_
    refine jw_getR (pc' := 122) (F := 2) (t' := 123) rfl rfl rfl rfl rfl g_2 ?_
    refine jw_iload_n (pc' := 123) rfl rfl ?_
    refine jw_iload_n (pc' := 124) rfl rfl ?_
    refine jw_cV (st := [vR 15 r_10, vR 14 r_6, vR 14 r_6]) (sa := [vR 15 r_10, vR 123 (jfr h_11 2 r0), vI x2, vI x3]) okX18_init rfl rfl rfl rfl rfl rfl (jstp_init (sa := [vR 123 (jfr h_11 2 r0), vI x2, vI x3]) (st := [vR 15 r_10, vR 14 r_6, vR 14 r_6]) rfl rfl sX18_init okX18_init (lw_g (jtb_mem (c := 5) (i := 47) rfl) rfl) (jnz e_12) rfl rfl) w (fun h_14 _ _ w => ?_)
    refine jw_cV (st := [vR 14 r_6]) (sa := [vR 14 r_6, vR 15 r_10]) okX17_init rfl rfl rfl rfl rfl rfl (jstp_init (sa := [vR 15 r_10]) (st := [vR 14 r_6]) rfl rfl sX17_init okX17_init (lw_g (jtb_mem (c := 5) (i := 172) rfl) rfl) (jnz e_8) rfl rfl) w (fun h_17 _ _ w => ?_)
    refine jw_astore (pc' := 132) (ls' := [some (vR 1 r0), some (vR 36 r1), some (vI x2), some (vI x3), some (vI x4), some (vR 75 r5), some (vR 14 r_6), none, none]) rfl (by decide) rfl ?_
    refine jw_aload (pc' := 134) rfl rfl ?_
    refine jw_cV (st := []) (sa := [vR 14 r_6]) okX17_parts rfl rfl rfl rfl rfl rfl (jstp_virtual (sa := []) (st := []) (k := 0) rfl rfl sX17_parts okX17_parts (jnz e_8) (one14.k (jnz e_8)) rfl rfl) w (fun h_20 _ _ w => ?_)
    refine jw_aload (pc' := 139) rfl rfl ?_
    refine jw_cI (st := []) (sa := [vR 14 r_6]) okX17_ended rfl rfl rfl rfl rfl rfl (jstp_virtual (sa := []) (st := []) (k := 0) rfl rfl sX17_ended okX17_ended (jnz e_8) (one14.k (jnz e_8)) rfl rfl) w (fun v_25 h_23 _ _ w => ?_)
    refine jw_if_ne (tgt := 173) (pc' := 145) rfl rfl (fun c_26 => ?_) (fun c_26 => ?_)
    · replace w := w.1 c_26
      refine jw_gen (ls' := [some (vR 1 r0), some (vR 36 r1), none, none, some (vI x4), some (vR 75 r5), some (vR 14 r_6), none, none]) (st' := []) (And.intro (Or.inl rfl) (And.intro (Or.inl rfl) (And.intro (Or.inl rfl) (And.intro (Or.inl rfl) (And.intro (Or.inl rfl) (trivial)))))) (trivial) ?_
      exact w_X1_parse_173 w
    · replace w := w.2 c_26
      refine jw_aload_n (pc' := 146) rfl rfl ?_
      refine jw_aload (pc' := 148) rfl rfl ?_
      refine jw_cR (st := [vR 36 r1]) (sa := [vR 14 r_6]) okX17_statement rfl rfl rfl rfl rfl rfl (jstp_virtual (sa := []) (st := [vR 36 r1]) (k := 0) rfl rfl sX17_statement okX17_statement (jnz e_8) (one14.k (jnz e_8)) rfl rfl) w (fun v_29 h_27 _ _ _ w => ?_)
      obtain ⟨g_30, w⟩ := w
      refine jw_putR' (pc' := 154) (F := 167) rfl rfl rfl (Or.inr rfl) (Or.inl rfl) rfl rfl rfl g_30 (fun h_31 e_32 => ?_)
      replace w := w h_31 e_32
      refine jw_aload (pc' := 156) rfl rfl ?_
      refine jw_cV (st := []) (sa := [vR 14 r_6]) okX17_parts rfl rfl rfl rfl rfl rfl (jstp_virtual (sa := []) (st := []) (k := 0) rfl rfl sX17_parts okX17_parts (jnz e_8) (one14.k (jnz e_8)) rfl rfl) w (fun h_33 _ _ w => ?_)
      refine jw_aload (pc' := 161) rfl rfl ?_
      refine jw_cI (st := []) (sa := [vR 14 r_6]) okX17_ended rfl rfl rfl rfl rfl rfl (jstp_virtual (sa := []) (st := []) (k := 0) rfl rfl sX17_ended okX17_ended (jnz e_8) (one14.k (jnz e_8)) rfl rfl) w (fun v_38 h_36 _ _ w => ?_)
      refine jw_if_ne (tgt := 173) (pc' := 167) rfl rfl (fun c_39 => ?_) (fun c_39 => ?_)
      · replace w := w.1 c_39
        refine jw_gen (ls' := [some (vR 1 r0), some (vR 36 r1), none, none, some (vI x4), some (vR 75 r5), some (vR 14 r_6), none, none]) (st' := []) (And.intro (Or.inl rfl) (And.intro (Or.inl rfl) (And.intro (Or.inl rfl) (And.intro (Or.inl rfl) (And.intro (Or.inl rfl) (trivial)))))) (trivial) ?_
        exact w_X1_parse_173 w
      · replace w := w.2 c_39
        refine jw_aload (pc' := 169) rfl rfl ?_
        refine jw_cR (st := []) (sa := [vR 14 r_6]) okX17_broken rfl rfl rfl rfl rfl rfl (jstp_virtual (sa := []) (st := []) (k := 0) rfl rfl sX17_broken okX17_broken (jnz e_8) (one14.k (jnz e_8)) rfl rfl) w (fun v_42 h_40 _ _ _ w => ?_)
        obtain ⟨g_43, w⟩ := w
        exact jw_athrow rfl rfl g_43 w
  · replace w := w.2 c_1
    refine jw_aload (pc' := 75) rfl rfl ?_
    refine jw_iload (pc' := 77) rfl rfl ?_
    refine jw_iload (pc' := 79) rfl rfl ?_
    refine jw_iload (pc' := 81) rfl rfl ?_
    refine jw_icmp_ge (tgt := 96) (pc' := 84) rfl rfl (fun c_44 => ?_) (fun c_44 => ?_)
    · replace w := w.1 c_44
      refine jw_getsR (pc' := 99) rfl rfl rfl rfl ?_
      exact w_X1_parse_99 hK66 w
    · replace w := w.2 c_44
      refine jw_aload_n (pc' := 85) rfl rfl ?_
      refine jw_aload_n (pc' := 86) rfl rfl ?_
      refine jw_iconst (pc' := 87) (x := (4 : Int32)) rfl rfl ?_
      obtain ⟨g_45, w⟩ := w
      refine jw_cL (st := [vR 1 r0, vI x6, vR 75 r5]) (sa := [vR 1 r0, vI (4 : Int32)]) okX1_number rfl rfl rfl rfl rfl rfl (jstp_virtual (sa := [vI (4 : Int32)]) (st := [vR 1 r0, vI x6, vR 75 r5]) (k := 0) rfl rfl sX1_number okX1_number g_45 (one1.k g_45) rfl rfl) w (fun v_47 h_46 _ _ w => ?_)
      refine jw_cR (st := [vI x6, vR 75 r5]) (sa := [vR 1 r0, vL v_47]) okX1_type rfl rfl rfl rfl rfl rfl (jstp_virtual (sa := [vL v_47]) (st := [vI x6, vR 75 r5]) (k := 0) rfl rfl sX1_type okX1_type g_45 (one1.k g_45) rfl rfl) w (fun v_50 h_48 _ _ _ w => ?_)
      refine jw_goto (pc' := 99) rfl rfl ?_
      exact w_X1_parse_99 hK66 w
def L_X1_parse_66 (D : JD) (d : Nat) (Q : JO → JH → Prop) : Nat → Nat → Nat → Int32 → Int32 → Int32 → Nat → Int32 → JH → Prop
  | 0 => fun _ _ _ _ _ _ _ _ => False
  | n + 1 => fun r0 r1 x2 x3 x4 r5 x6 h => W_X1_parse_66 D d Q (L_X1_parse_66 D d Q n) r0 r1 x2 x3 x4 r5 x6 h
theorem l_X1_parse_66 {D : JD} {d : Nat} {Q : JO → JH → Prop} : ∀ (n : Nat) (r0 : Nat) (r1 : Nat) (x2 : Int32) (x3 : Int32) (x4 : Int32) (r5 : Nat) (x6 : Int32) (h : JH), L_X1_parse_66 D d Q n r0 r1 x2 x3 x4 r5 x6 h → JW D (d + 1) mX1_parse 66 [some (vR 1 r0), some (vR 36 r1), some (vI x2), some (vI x3), some (vI x4), some (vR 75 r5), some (vI x6), none, none] [] h Q := by
  intro n
  induction n with
  | zero => intro _ _ _ _ _ _ _ _ w; exact w.elim
  | succ n ih => intro _ _ _ _ _ _ _ h w; exact w_X1_parse_66 ih w
def W_X1_parse_0 (D : JD) (d : Nat) (Q : JO → JH → Prop) (r0 : Nat) (h : JH) : Prop :=
  ∀ (r_1 : Nat) (h_2 : JH), r_1 = jsz h + 1 → h_2 = nwo h 36 3 → (cX43_init D d r_1 h_2 (pV D h_2 (fun h_5 => r0 ≠ 0 ∧ (cX1_string D d r0 h_5 (pR D h_5 64 (fun v_11 h_9 => ∀ h_12 : JH, h_12 = wfr h_9 166 r_1 v_11 → (cX1_string D d r0 h_12 (pR D h_12 64 (fun v_16 h_14 => v_16 ≠ 0 ∧ (cJ5_length D d v_16 h_14 (pI D h_14 (fun v_20 h_18 => cX1_number D d r0 (2 : Int32) h_18 (pL D h_18 (fun v_22 h_21 => ((Int64.toInt32 v_22) < 0 → W_X1_parse_51 D d Q r0 h_21) ∧ (¬ (Int64.toInt32 v_22) < 0 → ((Int64.toInt32 v_22) ≤ (8 : Int32) → ∀ (r_25 : Nat) (h_26 : JH), r_25 = jsz h_21 + 1 → h_26 = nwa h_21 75 8 → (∃ n, L_X1_parse_66 D d Q n r0 r_1 (jfi h_12 13 r0) ((jfi h_12 13 r0) + v_20) (Int64.toInt32 v_22) r_25 (0 : Int32) h_26)) ∧ (¬ (Int64.toInt32 v_22) ≤ (8 : Int32) → W_X1_parse_51 D d Q r0 h_21))) (jth Q))) (jth Q)))) (jth Q)))) (jth Q)))) (jth Q)))
theorem w_X1_parse_0 {D : JD} {d : Nat} {Q : JO → JH → Prop} {r0 : Nat} {h : JH} (w : W_X1_parse_0 D d Q r0 h) : JW D (d + 1) mX1_parse 0 [some (vR 1 r0), none, none, none, none, none, none, none, none] [] h Q := by
  unfold W_X1_parse_0 at w
  refine jw_new' (pc' := 3) (k := 36) (n := 3) rfl rfl rfl rfl rfl rfl rfl (fun r_1 h_2 e_3 e_4 => ?_)
  replace w := w r_1 h_2 e_3 e_4
  refine jw_dup (pc' := 4) rfl rfl ?_
  refine jw_cV (st := [vR 36 r_1]) (sa := [vR 36 r_1]) okX43_init rfl rfl rfl rfl rfl rfl (jstp_init (sa := []) (st := [vR 36 r_1]) rfl rfl sX43_init okX43_init (lw_g (jtb_mem (c := 13) (i := 155) rfl) rfl) (jnz e_3) rfl rfl) w (fun h_5 _ _ w => ?_)
  refine jw_astore_n (pc' := 8) (ls' := [some (vR 1 r0), some (vR 36 r_1), none, none, none, none, none, none, none]) rfl (by decide) rfl ?_
  refine jw_aload_n (pc' := 9) rfl rfl ?_
  refine jw_aload_n (pc' := 10) rfl rfl ?_
  obtain ⟨g_8, w⟩ := w
  refine jw_cR (st := [vR 36 r_1]) (sa := [vR 1 r0]) okX1_string rfl rfl rfl rfl rfl rfl (jstp_virtual (sa := []) (st := [vR 36 r_1]) (k := 0) rfl rfl sX1_string okX1_string g_8 (one1.k g_8) rfl rfl) w (fun v_11 h_9 _ _ _ w => ?_)
  refine jw_putR' (pc' := 16) (F := 166) rfl rfl rfl (Or.inr rfl) (Or.inl rfl) rfl rfl rfl (jnz e_3) (fun h_12 e_13 => ?_)
  replace w := w h_12 e_13
  refine jw_aload_n (pc' := 17) rfl rfl ?_
  refine jw_getI (pc' := 20) (F := 13) rfl rfl rfl rfl g_8 ?_
  refine jw_istore_n (pc' := 21) (ls' := [some (vR 1 r0), some (vR 36 r_1), some (vI (jfi h_12 13 r0)), none, none, none, none, none, none]) rfl (by decide) rfl ?_
  refine jw_iload_n (pc' := 22) rfl rfl ?_
  refine jw_aload_n (pc' := 23) rfl rfl ?_
  refine jw_cR (st := [vI (jfi h_12 13 r0)]) (sa := [vR 1 r0]) okX1_string rfl rfl rfl rfl rfl rfl (jstp_virtual (sa := []) (st := [vI (jfi h_12 13 r0)]) (k := 0) rfl rfl sX1_string okX1_string g_8 (one1.k g_8) rfl rfl) w (fun v_16 h_14 _ _ _ w => ?_)
  obtain ⟨g_17, w⟩ := w
  refine jw_cI (st := [vI (jfi h_12 13 r0)]) (sa := [vR 64 v_16]) okJ5_length rfl rfl rfl rfl rfl rfl (jstp_virtual (sa := []) (st := [vI (jfi h_12 13 r0)]) (k := 0) rfl rfl sJ5_length okJ5_length g_17 (one64.k g_17) rfl rfl) w (fun v_20 h_18 _ _ w => ?_)
  refine jw_iadd (pc' := 30) rfl ?_
  refine jw_istore_n (pc' := 31) (ls' := [some (vR 1 r0), some (vR 36 r_1), some (vI (jfi h_12 13 r0)), some (vI ((jfi h_12 13 r0) + v_20)), none, none, none, none, none]) rfl (by decide) rfl ?_
  refine jw_aload_n (pc' := 32) rfl rfl ?_
  refine jw_iconst (pc' := 33) (x := (2 : Int32)) rfl rfl ?_
  refine jw_cL (st := []) (sa := [vR 1 r0, vI (2 : Int32)]) okX1_number rfl rfl rfl rfl rfl rfl (jstp_virtual (sa := [vI (2 : Int32)]) (st := []) (k := 0) rfl rfl sX1_number okX1_number g_8 (one1.k g_8) rfl rfl) w (fun v_22 h_21 _ _ w => ?_)
  refine jw_l2i (pc' := 37) rfl ?_
  refine jw_istore (pc' := 39) (ls' := [some (vR 1 r0), some (vR 36 r_1), some (vI (jfi h_12 13 r0)), some (vI ((jfi h_12 13 r0) + v_20)), some (vI (Int64.toInt32 v_22)), none, none, none, none]) rfl (by decide) rfl ?_
  refine jw_iload (pc' := 41) rfl rfl ?_
  refine jw_if_lt (tgt := 51) (pc' := 44) rfl rfl (fun c_23 => ?_) (fun c_23 => ?_)
  · replace w := w.1 c_23
    refine jw_gen (ls' := [some (vR 1 r0), none, none, none, none, none, none, none, none]) (st' := []) (And.intro (Or.inl rfl) (trivial)) (trivial) ?_
    exact w_X1_parse_51 w
  · replace w := w.2 c_23
    refine jw_iload (pc' := 46) rfl rfl ?_
    refine jw_bipush (pc' := 48) (x := (8 : Int32)) rfl rfl ?_
    refine jw_icmp_le (tgt := 56) (pc' := 51) rfl rfl (fun c_24 => ?_) (fun c_24 => ?_)
    · replace w := w.1 c_24
      refine jw_bipush (pc' := 58) (x := (8 : Int32)) rfl rfl ?_
      refine jw_anew' (pc' := 61) (n := 8) (k := 75) rfl rfl rfl rfl rfl rfl rfl (jtb_mem (c := 1) (i := 176) rfl) ⟨by decide, rfl⟩ rfl (fun r_25 h_26 e_27 e_28 => ?_)
      replace w := w r_25 h_26 e_27 e_28
      refine jw_astore (pc' := 63) (ls' := [some (vR 1 r0), some (vR 36 r_1), some (vI (jfi h_12 13 r0)), some (vI ((jfi h_12 13 r0) + v_20)), some (vI (Int64.toInt32 v_22)), some (vR 75 r_25), none, none, none]) rfl (by decide) rfl ?_
      refine jw_iconst (pc' := 64) (x := (0 : Int32)) rfl rfl ?_
      refine jw_istore (pc' := 66) (ls' := [some (vR 1 r0), some (vR 36 r_1), some (vI (jfi h_12 13 r0)), some (vI ((jfi h_12 13 r0) + v_20)), some (vI (Int64.toInt32 v_22)), some (vR 75 r_25), some (vI (0 : Int32)), none, none]) rfl (by decide) rfl ?_
      obtain ⟨n, w⟩ := w
      exact l_X1_parse_66 n _ _ _ _ _ _ _ _ w
    · replace w := w.2 c_24
      refine jw_gen (ls' := [some (vR 1 r0), none, none, none, none, none, none, none, none]) (st' := []) (And.intro (Or.inl rfl) (trivial)) (trivial) ?_
      exact w_X1_parse_51 w
def T_X1_parse (D : JD) (d : Nat) (Q : JO → JH → Prop) (r0 : Nat) (h : JH) : Prop := W_X1_parse_0 D d Q r0 h
theorem t_X1_parse {D : JD} {d : Nat} {Q : JO → JH → Prop} {r0 : Nat} {h : JH} (w : T_X1_parse D d Q r0 h) : cX1_parse D (d + 1) r0 h Q := by
  unfold T_X1_parse at w
  unfold cX1_parse
  exact w_X1_parse_0 w
def W_X1_type_43 (D : JD) (d : Nat) (Q : JO → JH → Prop) (h : JH) : Prop :=
  Q (.inl (some (vR 52 (jcs D 346)))) h
theorem w_X1_type_43 {D : JD} {d : Nat} {Q : JO → JH → Prop} {h : JH} (w : W_X1_type_43 D d Q h) : JW D (d + 1) mX1_type 43 [none, none, none] [] h Q := by
  unfold W_X1_type_43 at w
  refine jw_getsR (pc' := 46) rfl rfl rfl rfl ?_
  exact jw_areturn rfl rfl rfl rfl rfl w
def W_X1_type_0 (D : JD) (d : Nat) (Q : JO → JH → Prop) (r0 : Nat) (y1 : Int64) (h : JH) : Prop :=
  (¬ (lg_cmp y1 (16 : Int64)) = 0 → (¬ (lg_cmp y1 (20 : Int64)) = 0 → ((lg_cmp y1 (25 : Int64)) = 0 → W_X1_type_43 D d Q h) ∧ (¬ (lg_cmp y1 (25 : Int64)) = 0 → ((lg_cmp y1 (0 : Int64)) = 0 → W_X1_type_43 D d Q h) ∧ (¬ (lg_cmp y1 (0 : Int64)) = 0 → r0 ≠ 0 ∧ (cX1_protocol D d r0 h (pR D h 9 (fun v_8 h_6 => v_8 ≠ 0 ∧ (Q (.inr v_8) h_6)) (jth Q)))))) ∧ ((lg_cmp y1 (20 : Int64)) = 0 → Q (.inl (some (vR 52 (jcs D 356)))) h)) ∧ ((lg_cmp y1 (16 : Int64)) = 0 → Q (.inl (some (vR 52 (jcs D 357)))) h)
theorem w_X1_type_0 {D : JD} {d : Nat} {Q : JO → JH → Prop} {r0 : Nat} {y1 : Int64} {h : JH} (w : W_X1_type_0 D d Q r0 y1 h) : JW D (d + 1) mX1_type 0 [some (vR 1 r0), some (vL y1), none] [] h Q := by
  unfold W_X1_type_0 at w
  refine jw_lload_n (pc' := 1) rfl rfl ?_
  refine jw_ldc2 (pc' := 4) (v := (16 : Int64)) rfl rfl ?_
  refine jw_lcmp (pc' := 5) rfl ?_
  refine jw_if_ne (tgt := 12) (pc' := 8) rfl rfl (fun c_1 => ?_) (fun c_1 => ?_)
  · replace w := w.1 c_1
    refine jw_lload_n (pc' := 13) rfl rfl ?_
    refine jw_ldc2 (pc' := 16) (v := (20 : Int64)) rfl rfl ?_
    refine jw_lcmp (pc' := 17) rfl ?_
    refine jw_if_ne (tgt := 24) (pc' := 20) rfl rfl (fun c_2 => ?_) (fun c_2 => ?_)
    · replace w := w.1 c_2
      refine jw_lload_n (pc' := 25) rfl rfl ?_
      refine jw_ldc2 (pc' := 28) (v := (25 : Int64)) rfl rfl ?_
      refine jw_lcmp (pc' := 29) rfl ?_
      refine jw_if_eq (tgt := 43) (pc' := 32) rfl rfl (fun c_3 => ?_) (fun c_3 => ?_)
      · replace w := w.1 c_3
        refine jw_gen (ls' := [none, none, none]) (st' := []) (trivial) (trivial) ?_
        exact w_X1_type_43 w
      · replace w := w.2 c_3
        refine jw_lload_n (pc' := 33) rfl rfl ?_
        refine jw_lconst (pc' := 34) (x := (0 : Int64)) rfl rfl ?_
        refine jw_lcmp (pc' := 35) rfl ?_
        refine jw_if_eq (tgt := 43) (pc' := 38) rfl rfl (fun c_4 => ?_) (fun c_4 => ?_)
        · replace w := w.1 c_4
          refine jw_gen (ls' := [none, none, none]) (st' := []) (trivial) (trivial) ?_
          exact w_X1_type_43 w
        · replace w := w.2 c_4
          refine jw_aload_n (pc' := 39) rfl rfl ?_
          obtain ⟨g_5, w⟩ := w
          refine jw_cR (st := []) (sa := [vR 1 r0]) okX1_protocol rfl rfl rfl rfl rfl rfl (jstp_virtual (sa := []) (st := []) (k := 0) rfl rfl sX1_protocol okX1_protocol g_5 (one1.k g_5) rfl rfl) w (fun v_8 h_6 _ _ _ w => ?_)
          obtain ⟨g_9, w⟩ := w
          exact jw_athrow rfl rfl g_9 w
    · replace w := w.2 c_2
      refine jw_getsR (pc' := 23) rfl rfl rfl rfl ?_
      exact jw_areturn rfl rfl rfl rfl rfl w
  · replace w := w.2 c_1
    refine jw_getsR (pc' := 11) rfl rfl rfl rfl ?_
    exact jw_areturn rfl rfl rfl rfl rfl w
def T_X1_type (D : JD) (d : Nat) (Q : JO → JH → Prop) (r0 : Nat) (y1 : Int64) (h : JH) : Prop := W_X1_type_0 D d Q r0 y1 h
theorem t_X1_type {D : JD} {d : Nat} {Q : JO → JH → Prop} {r0 : Nat} {y1 : Int64} {h : JH} (w : T_X1_type D d Q r0 y1 h) : cX1_type D (d + 1) r0 y1 h Q := by
  unfold T_X1_type at w
  unfold cX1_type
  exact w_X1_type_0 w
def W_X1_statement_2 (D : JD) (d : Nat) (Q : JO → JH → Prop) (K2 : Nat → Nat → Int32 → JH → Prop) (r0 : Nat) (r1 : Nat) (x2 : Int32) (h : JH) : Prop :=
  r0 ≠ 0 ∧ (((jfi h 9 r0) ≤ x2 → Q (.inl (some (vI (-1 : Int32)))) h) ∧ (¬ (jfi h 9 r0) ≤ x2 → (jfr h 8 r0) ≠ 0 ∧ jin x2 (jln h (jfr h 8 r0)) ∧ ((jar h (jfr h 8 r0) (ixn x2)) ≠ 0 ∧ ((jfr h 166 (jar h (jfr h 8 r0) (ixn x2))) ≠ 0 ∧ (cJ5_equals D d (jfr h 166 (jar h (jfr h 8 r0) (ixn x2))) r1 h (pI D h (fun v_9 h_7 => (v_9 = 0 → K2 r0 r1 (x2 + (1 : Int32)) h_7) ∧ (¬ v_9 = 0 → Q (.inl (some (vI x2))) h_7)) (jth Q)))))))
theorem w_X1_statement_2 {D : JD} {d : Nat} {Q : JO → JH → Prop} {K2 : Nat → Nat → Int32 → JH → Prop} {r0 : Nat} {r1 : Nat} {x2 : Int32} {h : JH} (hK2 : ∀ (r0 : Nat) (r1 : Nat) (x2 : Int32) (h : JH), K2 r0 r1 x2 h → JW D (d + 1) mX1_statement 2 [some (vR 1 r0), some (vR 64 r1), some (vI x2)] [] h Q) (w : W_X1_statement_2 D d Q K2 r0 r1 x2 h) : JW D (d + 1) mX1_statement 2 [some (vR 1 r0), some (vR 64 r1), some (vI x2)] [] h Q := by
  unfold W_X1_statement_2 at w
  refine jw_iload_n (pc' := 3) rfl rfl ?_
  refine jw_aload_n (pc' := 4) rfl rfl ?_
  obtain ⟨g_1, w⟩ := w
  refine jw_getI (pc' := 7) (F := 9) rfl rfl rfl rfl g_1 ?_
  refine jw_icmp_ge (tgt := 34) (pc' := 10) rfl rfl (fun c_2 => ?_) (fun c_2 => ?_)
  · replace w := w.1 c_2
    refine jw_iconst (pc' := 35) (x := (-1 : Int32)) rfl rfl ?_
    exact jw_ireturn rfl rfl (rfl) w
  · replace w := w.2 c_2
    refine jw_aload_n (pc' := 11) rfl rfl ?_
    refine jw_getR (pc' := 14) (F := 8) (t' := 124) rfl rfl rfl rfl rfl g_1 ?_
    refine jw_iload_n (pc' := 15) rfl rfl ?_
    obtain ⟨g_3, w⟩ := w
    obtain ⟨g_4, w⟩ := w
    refine jw_aald (pc' := 16) (t' := 36) rfl rfl rfl rfl g_3 g_4.ix g_4.2 ?_
    obtain ⟨g_5, w⟩ := w
    refine jw_getR (pc' := 19) (F := 166) (t' := 64) rfl rfl rfl rfl rfl g_5 ?_
    refine jw_aload_n (pc' := 20) rfl rfl ?_
    obtain ⟨g_6, w⟩ := w
    refine jw_cI (st := []) (sa := [vR 64 (jfr h 166 (jar h (jfr h 8 r0) (ixn x2))), vR 64 r1]) okJ5_equals rfl rfl rfl rfl rfl rfl (jstp_virtual (sa := [vR 64 r1]) (st := []) (k := 0) rfl rfl sJ5_equals okJ5_equals g_6 (one64.k g_6) rfl rfl) w (fun v_9 h_7 _ _ w => ?_)
    refine jw_if_eq (tgt := 28) (pc' := 26) rfl rfl (fun c_10 => ?_) (fun c_10 => ?_)
    · replace w := w.1 c_10
      refine jw_iinc (pc' := 31) (y := x2 + (1 : Int32)) (ls' := [some (vR 1 r0), some (vR 64 r1), some (vI (x2 + (1 : Int32)))]) rfl (by decide) rfl rfl rfl ?_
      refine jw_goto (pc' := 2) rfl rfl ?_
      exact hK2 _ _ _ _ w
    · replace w := w.2 c_10
      refine jw_iload_n (pc' := 27) rfl rfl ?_
      exact jw_ireturn rfl rfl (rfl) w
def L_X1_statement_2 (D : JD) (d : Nat) (Q : JO → JH → Prop) : Nat → Nat → Nat → Int32 → JH → Prop
  | 0 => fun _ _ _ _ => False
  | n + 1 => fun r0 r1 x2 h => W_X1_statement_2 D d Q (L_X1_statement_2 D d Q n) r0 r1 x2 h
theorem l_X1_statement_2 {D : JD} {d : Nat} {Q : JO → JH → Prop} : ∀ (n : Nat) (r0 : Nat) (r1 : Nat) (x2 : Int32) (h : JH), L_X1_statement_2 D d Q n r0 r1 x2 h → JW D (d + 1) mX1_statement 2 [some (vR 1 r0), some (vR 64 r1), some (vI x2)] [] h Q := by
  intro n
  induction n with
  | zero => intro _ _ _ _ w; exact w.elim
  | succ n ih => intro _ _ _ h w; exact w_X1_statement_2 ih w
def W_X1_statement_0 (D : JD) (d : Nat) (Q : JO → JH → Prop) (r0 : Nat) (r1 : Nat) (h : JH) : Prop :=
  ∃ n, L_X1_statement_2 D d Q n r0 r1 (0 : Int32) h
theorem w_X1_statement_0 {D : JD} {d : Nat} {Q : JO → JH → Prop} {r0 : Nat} {r1 : Nat} {h : JH} (w : W_X1_statement_0 D d Q r0 r1 h) : JW D (d + 1) mX1_statement 0 [some (vR 1 r0), some (vR 64 r1), none] [] h Q := by
  unfold W_X1_statement_0 at w
  refine jw_iconst (pc' := 1) (x := (0 : Int32)) rfl rfl ?_
  refine jw_istore_n (pc' := 2) (ls' := [some (vR 1 r0), some (vR 64 r1), some (vI (0 : Int32))]) rfl (by decide) rfl ?_
  obtain ⟨n, w⟩ := w
  exact l_X1_statement_2 n _ _ _ _ w
def T_X1_statement (D : JD) (d : Nat) (Q : JO → JH → Prop) (r0 : Nat) (r1 : Nat) (h : JH) : Prop := W_X1_statement_0 D d Q r0 r1 h
theorem t_X1_statement {D : JD} {d : Nat} {Q : JO → JH → Prop} {r0 : Nat} {r1 : Nat} {h : JH} (w : T_X1_statement D d Q r0 r1 h) : cX1_statement D (d + 1) r0 r1 h Q := by
  unfold T_X1_statement at w
  unfold cX1_statement
  exact w_X1_statement_0 w
def W_X1_bind_351 (D : JD) (d : Nat) (Q : JO → JH → Prop) (r0 : Nat) (r1 : Nat) (x6 : Int32) (h : JH) : Prop :=
  r0 ≠ 0 ∧ ((jfr h 10 r0) ≠ 0 ∧ jin x6 (jln h (jfr h 10 r0)) ∧ ∀ h_4 : JH, h_4 = war h (jfr h 10 r0) (ixn x6) r1 → ((jfr h_4 4 r0) ≠ 0 ∧ (cX2_plain D d (jfr h_4 4 r0) (50 : Int32) h_4 (pV D h_4 (fun h_7 => Q (.inl none) h_7) (jth Q)))))
theorem w_X1_bind_351 {D : JD} {d : Nat} {Q : JO → JH → Prop} {r0 : Nat} {r1 : Nat} {x6 : Int32} {h : JH} (w : W_X1_bind_351 D d Q r0 r1 x6 h) : JW D (d + 1) mX1_bind 351 [some (vR 1 r0), some (vR 37 r1), none, none, none, none, some (vI x6), none, none] [] h Q := by
  unfold W_X1_bind_351 at w
  refine jw_aload_n (pc' := 352) rfl rfl ?_
  obtain ⟨g_1, w⟩ := w
  refine jw_getR (pc' := 355) (F := 10) (t' := 125) rfl rfl rfl rfl rfl g_1 ?_
  refine jw_iload (pc' := 357) rfl rfl ?_
  refine jw_aload_n (pc' := 358) rfl rfl ?_
  obtain ⟨g_2, w⟩ := w
  obtain ⟨g_3, w⟩ := w
  refine jw_aast' (pc' := 359) rfl rfl rfl rfl rfl rfl g_2 g_3 (fun h_4 e_5 => ?_)
  replace w := w h_4 e_5
  refine jw_aload_n (pc' := 360) rfl rfl ?_
  refine jw_getR (pc' := 363) (F := 4) (t' := 112) rfl rfl rfl rfl rfl g_1 ?_
  refine jw_bipush (pc' := 365) (x := (50 : Int32)) rfl rfl ?_
  obtain ⟨g_6, w⟩ := w
  refine jw_cV (st := []) (sa := [vR 112 (jfr h_4 4 r0), vI (50 : Int32)]) okX2_plain rfl rfl rfl rfl rfl rfl (jstp_virtual (sa := [vI (50 : Int32)]) (st := []) (k := 0) rfl rfl sX2_plain okX2_plain g_6 (one112.k g_6) rfl rfl) w (fun h_7 _ _ w => ?_)
  exact jw_return rfl rfl w
def W_X1_bind_295 (D : JD) (d : Nat) (Q : JO → JH → Prop) (K239 : Nat → Nat → Int32 → Int32 → Int32 → JH → Prop) (r0 : Nat) (r1 : Nat) (x3 : Int32) (x6 : Int32) (x7 : Int32) (x8 : Int32) (h : JH) : Prop :=
  r0 ≠ 0 ∧ (cJ15_max D d (0 : Int32) x8 h (pI D h (fun v_4 h_2 => ∀ h_5 : JH, h_5 = wfi h_2 13 r0 ((jfi h 13 r0) + v_4) → (K239 r0 r1 x3 x6 (x7 + (1 : Int32)) h_5)) (jth Q)))
theorem w_X1_bind_295 {D : JD} {d : Nat} {Q : JO → JH → Prop} {K239 : Nat → Nat → Int32 → Int32 → Int32 → JH → Prop} {r0 : Nat} {r1 : Nat} {x3 : Int32} {x6 : Int32} {x7 : Int32} {x8 : Int32} {h : JH} (hK239 : ∀ (r0 : Nat) (r1 : Nat) (x3 : Int32) (x6 : Int32) (x7 : Int32) (h : JH), K239 r0 r1 x3 x6 x7 h → JW D (d + 1) mX1_bind 239 [some (vR 1 r0), some (vR 37 r1), none, some (vI x3), none, none, some (vI x6), some (vI x7), none] [] h Q) (w : W_X1_bind_295 D d Q K239 r0 r1 x3 x6 x7 x8 h) : JW D (d + 1) mX1_bind 295 [some (vR 1 r0), some (vR 37 r1), none, some (vI x3), none, none, some (vI x6), some (vI x7), some (vI x8)] [] h Q := by
  unfold W_X1_bind_295 at w
  refine jw_aload_n (pc' := 296) rfl rfl ?_
  refine jw_dup (pc' := 297) rfl rfl ?_
  obtain ⟨g_1, w⟩ := w
  refine jw_getI (pc' := 300) (F := 13) rfl rfl rfl rfl g_1 ?_
  refine jw_iconst (pc' := 301) (x := (0 : Int32)) rfl rfl ?_
  refine jw_iload (pc' := 303) rfl rfl ?_
  refine jw_cI (st := [vI (jfi h 13 r0), vR 1 r0]) (sa := [vI (0 : Int32), vI x8]) okJ15_max rfl rfl rfl rfl rfl rfl (jstp_static (sa := [vI (0 : Int32), vI x8]) (st := [vI (jfi h 13 r0), vR 1 r0]) rfl rfl sJ15_max okJ15_max rfl rfl) w (fun v_4 h_2 _ _ w => ?_)
  refine jw_iadd (pc' := 307) rfl ?_
  refine jw_putI' (pc' := 310) (F := 13) rfl rfl rfl (Or.inr rfl) (Or.inl rfl) rfl (rfl) (rfl) rfl g_1 (fun h_5 e_6 => ?_)
  replace w := w h_5 e_6
  refine jw_iinc (pc' := 313) (y := x7 + (1 : Int32)) (ls' := [some (vR 1 r0), some (vR 37 r1), none, some (vI x3), none, none, some (vI x6), some (vI (x7 + (1 : Int32))), some (vI x8)]) rfl (by decide) rfl rfl rfl ?_
  refine jw_goto (pc' := 239) rfl rfl ?_
  refine jw_gen (ls' := [some (vR 1 r0), some (vR 37 r1), none, some (vI x3), none, none, some (vI x6), some (vI (x7 + (1 : Int32))), none]) (st' := []) (And.intro (Or.inl rfl) (And.intro (Or.inl rfl) (And.intro (Or.inl rfl) (And.intro (Or.inl rfl) (And.intro (Or.inl rfl) (trivial)))))) (trivial) ?_
  exact hK239 _ _ _ _ _ _ w
def W_X1_bind_239 (D : JD) (d : Nat) (Q : JO → JH → Prop) (K239 : Nat → Nat → Int32 → Int32 → Int32 → JH → Prop) (r0 : Nat) (r1 : Nat) (x3 : Int32) (x6 : Int32) (x7 : Int32) (h : JH) : Prop :=
  (x3 ≤ x7 → (0 ≤ x6 → r0 ≠ 0 ∧ ((jfr h 10 r0) ≠ 0 ∧ jin x6 (jln h (jfr h 10 r0)) ∧ (cX1_free D d r0 (jar h (jfr h 10 r0) (ixn x6)) h (pV D h (fun h_6 => W_X1_bind_351 D d Q r0 r1 x6 h_6) (jth Q))))) ∧ (¬ 0 ≤ x6 → r0 ≠ 0 ∧ (∀ h_10 : JH, h_10 = wfi h 11 r0 ((jfi h 11 r0) + (1 : Int32)) → (W_X1_bind_351 D d Q r0 r1 (jfi h 11 r0) h_10)))) ∧ (¬ x3 ≤ x7 → r0 ≠ 0 ∧ (cX1_number D d r0 (4 : Int32) h (pL D h (fun v_14 h_13 => r1 ≠ 0 ∧ (∀ (r_16 : Nat) (h_17 : JH), r_16 = jsz h_13 + 1 → h_17 = nwo h_13 102 5 → (cX14_init D d r_16 h_17 (pV D h_17 (fun h_20 => (jfr h_13 171 r1) ≠ 0 ∧ jin x7 (jln h_20 (jfr h_13 171 r1)) ∧ ∀ h_25 : JH, h_25 = war h_20 (jfr h_13 171 r1) (ixn x7) r_16 → (((Int64.toInt32 v_14) < 0 → W_X1_bind_295 D d Q K239 r0 r1 x3 x6 x7 (Int64.toInt32 v_14) h_25) ∧ (¬ (Int64.toInt32 v_14) < 0 → (jfr h_25 171 r1) ≠ 0 ∧ jin x7 (jln h_25 (jfr h_25 171 r1)) ∧ ((jfr h_25 170 r1) ≠ 0 ∧ ((jfr h_25 168 (jfr h_25 170 r1)) ≠ 0 ∧ jin x7 (jln h_25 (jfr h_25 168 (jfr h_25 170 r1))) ∧ (cX1_value D d r0 (jar h_25 (jfr h_25 171 r1) (ixn x7)) (jar h_25 (jfr h_25 168 (jfr h_25 170 r1)) (ixn x7)) (Int64.toInt32 v_14) h_25 (pV D h_25 (fun h_33 => W_X1_bind_295 D d Q K239 r0 r1 x3 x6 x7 (Int64.toInt32 v_14) h_33) (jth Q)))))))) (jth Q))))) (jth Q))))
theorem w_X1_bind_239 {D : JD} {d : Nat} {Q : JO → JH → Prop} {K239 : Nat → Nat → Int32 → Int32 → Int32 → JH → Prop} {r0 : Nat} {r1 : Nat} {x3 : Int32} {x6 : Int32} {x7 : Int32} {h : JH} (hK239 : ∀ (r0 : Nat) (r1 : Nat) (x3 : Int32) (x6 : Int32) (x7 : Int32) (h : JH), K239 r0 r1 x3 x6 x7 h → JW D (d + 1) mX1_bind 239 [some (vR 1 r0), some (vR 37 r1), none, some (vI x3), none, none, some (vI x6), some (vI x7), none] [] h Q) (w : W_X1_bind_239 D d Q K239 r0 r1 x3 x6 x7 h) : JW D (d + 1) mX1_bind 239 [some (vR 1 r0), some (vR 37 r1), none, some (vI x3), none, none, some (vI x6), some (vI x7), none] [] h Q := by
  unfold W_X1_bind_239 at w
  refine jw_iload (pc' := 241) rfl rfl ?_
  refine jw_iload_n (pc' := 242) rfl rfl ?_
  refine jw_icmp_ge (tgt := 316) (pc' := 245) rfl rfl (fun c_1 => ?_) (fun c_1 => ?_)
  · replace w := w.1 c_1
    refine jw_iload (pc' := 318) rfl rfl ?_
    refine jw_if_ge (tgt := 340) (pc' := 321) rfl rfl (fun c_2 => ?_) (fun c_2 => ?_)
    · replace w := w.1 c_2
      refine jw_aload_n (pc' := 341) rfl rfl ?_
      refine jw_aload_n (pc' := 342) rfl rfl ?_
      obtain ⟨g_3, w⟩ := w
      refine jw_getR (pc' := 345) (F := 10) (t' := 125) rfl rfl rfl rfl rfl g_3 ?_
      refine jw_iload (pc' := 347) rfl rfl ?_
      obtain ⟨g_4, w⟩ := w
      obtain ⟨g_5, w⟩ := w
      refine jw_aald (pc' := 348) (t' := 37) rfl rfl rfl rfl g_4 g_5.ix g_5.2 ?_
      refine jw_cV (st := []) (sa := [vR 1 r0, vR 37 (jar h (jfr h 10 r0) (ixn x6))]) okX1_free rfl rfl rfl rfl rfl rfl (jstp_virtual (sa := [vR 37 (jar h (jfr h 10 r0) (ixn x6))]) (st := []) (k := 0) rfl rfl sX1_free okX1_free g_3 (one1.k g_3) rfl rfl) w (fun h_6 _ _ w => ?_)
      refine jw_gen (ls' := [some (vR 1 r0), some (vR 37 r1), none, none, none, none, some (vI x6), none, none]) (st' := []) (And.intro (Or.inl rfl) (And.intro (Or.inl rfl) (And.intro (Or.inl rfl) (trivial)))) (trivial) ?_
      exact w_X1_bind_351 w
    · replace w := w.2 c_2
      refine jw_aload_n (pc' := 322) rfl rfl ?_
      obtain ⟨g_9, w⟩ := w
      refine jw_getI (pc' := 325) (F := 11) rfl rfl rfl rfl g_9 ?_
      refine jw_istore (pc' := 327) (ls' := [some (vR 1 r0), some (vR 37 r1), none, some (vI x3), none, none, some (vI (jfi h 11 r0)), some (vI x7), none]) rfl (by decide) rfl ?_
      refine jw_aload_n (pc' := 328) rfl rfl ?_
      refine jw_dup (pc' := 329) rfl rfl ?_
      refine jw_getI (pc' := 332) (F := 11) rfl rfl rfl rfl g_9 ?_
      refine jw_iconst (pc' := 333) (x := (1 : Int32)) rfl rfl ?_
      refine jw_iadd (pc' := 334) rfl ?_
      refine jw_putI' (pc' := 337) (F := 11) rfl rfl rfl (Or.inr rfl) (Or.inl rfl) rfl (rfl) (rfl) rfl g_9 (fun h_10 e_11 => ?_)
      replace w := w h_10 e_11
      refine jw_goto (pc' := 351) rfl rfl ?_
      refine jw_gen (ls' := [some (vR 1 r0), some (vR 37 r1), none, none, none, none, some (vI (jfi h 11 r0)), none, none]) (st' := []) (And.intro (Or.inl rfl) (And.intro (Or.inl rfl) (And.intro (Or.inl rfl) (trivial)))) (trivial) ?_
      exact w_X1_bind_351 w
  · replace w := w.2 c_1
    refine jw_aload_n (pc' := 246) rfl rfl ?_
    refine jw_iconst (pc' := 247) (x := (4 : Int32)) rfl rfl ?_
    obtain ⟨g_12, w⟩ := w
    refine jw_cL (st := []) (sa := [vR 1 r0, vI (4 : Int32)]) okX1_number rfl rfl rfl rfl rfl rfl (jstp_virtual (sa := [vI (4 : Int32)]) (st := []) (k := 0) rfl rfl sX1_number okX1_number g_12 (one1.k g_12) rfl rfl) w (fun v_14 h_13 _ _ w => ?_)
    refine jw_l2i (pc' := 251) rfl ?_
    refine jw_istore (pc' := 253) (ls' := [some (vR 1 r0), some (vR 37 r1), none, some (vI x3), none, none, some (vI x6), some (vI x7), some (vI (Int64.toInt32 v_14))]) rfl (by decide) rfl ?_
    refine jw_aload_n (pc' := 254) rfl rfl ?_
    obtain ⟨g_15, w⟩ := w
    refine jw_getR (pc' := 257) (F := 171) (t' := 162) rfl rfl rfl rfl rfl g_15 ?_
    refine jw_iload (pc' := 259) rfl rfl ?_
    refine jw_new' (pc' := 262) (k := 102) (n := 5) rfl rfl rfl rfl rfl rfl rfl (fun r_16 h_17 e_18 e_19 => ?_)
    replace w := w r_16 h_17 e_18 e_19
    refine jw_dup (pc' := 263) rfl rfl ?_
    refine jw_cV (st := [vR 102 r_16, vI x7, vR 162 (jfr h_13 171 r1)]) (sa := [vR 102 r_16]) okX14_init rfl rfl rfl rfl rfl rfl (jstp_init (sa := []) (st := [vR 102 r_16, vI x7, vR 162 (jfr h_13 171 r1)]) rfl rfl sX14_init okX14_init (lw_g (jtb_mem (c := 2) (i := 222) rfl) rfl) (jnz e_18) rfl rfl) w (fun h_20 _ _ w => ?_)
    obtain ⟨g_23, w⟩ := w
    obtain ⟨g_24, w⟩ := w
    refine jw_aast' (pc' := 267) rfl rfl rfl rfl rfl rfl g_23 g_24 (fun h_25 e_26 => ?_)
    replace w := w h_25 e_26
    refine jw_iload (pc' := 269) rfl rfl ?_
    refine jw_if_lt (tgt := 295) (pc' := 272) rfl rfl (fun c_27 => ?_) (fun c_27 => ?_)
    · replace w := w.1 c_27
      exact w_X1_bind_295 hK239 w
    · replace w := w.2 c_27
      refine jw_aload_n (pc' := 273) rfl rfl ?_
      refine jw_aload_n (pc' := 274) rfl rfl ?_
      refine jw_getR (pc' := 277) (F := 171) (t' := 162) rfl rfl rfl rfl rfl g_15 ?_
      refine jw_iload (pc' := 279) rfl rfl ?_
      obtain ⟨g_28, w⟩ := w
      obtain ⟨g_29, w⟩ := w
      refine jw_aald (pc' := 280) (t' := 8) rfl rfl rfl rfl g_28 g_29.ix g_29.2 ?_
      refine jw_aload_n (pc' := 281) rfl rfl ?_
      refine jw_getR (pc' := 284) (F := 170) (t' := 36) rfl rfl rfl rfl rfl g_15 ?_
      obtain ⟨g_30, w⟩ := w
      refine jw_getR (pc' := 287) (F := 168) (t' := 161) rfl rfl rfl rfl rfl g_30 ?_
      refine jw_iload (pc' := 289) rfl rfl ?_
      obtain ⟨g_31, w⟩ := w
      obtain ⟨g_32, w⟩ := w
      refine jw_aald (pc' := 290) (t' := 52) rfl rfl rfl rfl g_31 g_32.ix g_32.2 ?_
      refine jw_iload (pc' := 292) rfl rfl ?_
      refine jw_cV (st := []) (sa := [vR 1 r0, vR 8 (jar h_25 (jfr h_25 171 r1) (ixn x7)), vR 52 (jar h_25 (jfr h_25 168 (jfr h_25 170 r1)) (ixn x7)), vI (Int64.toInt32 v_14)]) okX1_value rfl rfl rfl rfl rfl rfl (jstp_virtual (sa := [vR 8 (jar h_25 (jfr h_25 171 r1) (ixn x7)), vR 52 (jar h_25 (jfr h_25 168 (jfr h_25 170 r1)) (ixn x7)), vI (Int64.toInt32 v_14)]) (st := []) (k := 0) rfl rfl sX1_value okX1_value g_12 (one1.k g_12) rfl rfl) w (fun h_33 _ _ w => ?_)
      exact w_X1_bind_295 hK239 w
def L_X1_bind_239 (D : JD) (d : Nat) (Q : JO → JH → Prop) : Nat → Nat → Nat → Int32 → Int32 → Int32 → JH → Prop
  | 0 => fun _ _ _ _ _ _ => False
  | n + 1 => fun r0 r1 x3 x6 x7 h => W_X1_bind_239 D d Q (L_X1_bind_239 D d Q n) r0 r1 x3 x6 x7 h
theorem l_X1_bind_239 {D : JD} {d : Nat} {Q : JO → JH → Prop} : ∀ (n : Nat) (r0 : Nat) (r1 : Nat) (x3 : Int32) (x6 : Int32) (x7 : Int32) (h : JH), L_X1_bind_239 D d Q n r0 r1 x3 x6 x7 h → JW D (d + 1) mX1_bind 239 [some (vR 1 r0), some (vR 37 r1), none, some (vI x3), none, none, some (vI x6), some (vI x7), none] [] h Q := by
  intro n
  induction n with
  | zero => intro _ _ _ _ _ _ w; exact w.elim
  | succ n ih => intro _ _ _ _ _ h w; exact w_X1_bind_239 ih w
def W_X1_bind_222 (D : JD) (d : Nat) (Q : JO → JH → Prop) (r0 : Nat) (r1 : Nat) (x3 : Int32) (x4 : Int32) (x6 : Int32) (h : JH) : Prop :=
  jsm x3 ∧ ∀ (r_1 : Nat) (h_2 : JH), r_1 = jsz h + 1 → h_2 = nwa h 162 (ixn x3) → (r1 ≠ 0 ∧ ∀ h_7 : JH, h_7 = wfr h_2 171 r1 r_1 → (r0 ≠ 0 ∧ ∀ h_10 : JH, h_10 = wfi h_7 13 r0 x4 → (∃ n, L_X1_bind_239 D d Q n r0 r1 x3 x6 (0 : Int32) h_10)))
theorem w_X1_bind_222 {D : JD} {d : Nat} {Q : JO → JH → Prop} {r0 : Nat} {r1 : Nat} {x3 : Int32} {x4 : Int32} {x6 : Int32} {h : JH} (w : W_X1_bind_222 D d Q r0 r1 x3 x4 x6 h) : JW D (d + 1) mX1_bind 222 [some (vR 1 r0), some (vR 37 r1), none, some (vI x3), some (vI x4), none, some (vI x6), none, none] [] h Q := by
  unfold W_X1_bind_222 at w
  refine jw_aload_n (pc' := 223) rfl rfl ?_
  refine jw_iload_n (pc' := 224) rfl rfl ?_
  obtain ⟨g_5, w⟩ := w
  refine jw_anew' (pc' := 227) (n := ixn x3) (k := 162) rfl rfl rfl rfl rfl rfl rfl (jtb_mem (c := 1) (i := 178) rfl) g_5.ix g_5.b (fun r_1 h_2 e_3 e_4 => ?_)
  replace w := w r_1 h_2 e_3 e_4
  obtain ⟨g_6, w⟩ := w
  refine jw_putR' (pc' := 230) (F := 171) rfl rfl rfl (Or.inr rfl) (Or.inl rfl) rfl rfl rfl g_6 (fun h_7 e_8 => ?_)
  replace w := w h_7 e_8
  refine jw_aload_n (pc' := 231) rfl rfl ?_
  refine jw_iload (pc' := 233) rfl rfl ?_
  obtain ⟨g_9, w⟩ := w
  refine jw_putI' (pc' := 236) (F := 13) rfl rfl rfl (Or.inr rfl) (Or.inl rfl) rfl (rfl) (rfl) rfl g_9 (fun h_10 e_11 => ?_)
  replace w := w h_10 e_11
  refine jw_iconst (pc' := 237) (x := (0 : Int32)) rfl rfl ?_
  refine jw_istore (pc' := 239) (ls' := [some (vR 1 r0), some (vR 37 r1), none, some (vI x3), some (vI x4), none, some (vI x6), some (vI (0 : Int32)), none]) rfl (by decide) rfl ?_
  refine jw_gen (ls' := [some (vR 1 r0), some (vR 37 r1), none, some (vI x3), none, none, some (vI x6), some (vI (0 : Int32)), none]) (st' := []) (And.intro (Or.inl rfl) (And.intro (Or.inl rfl) (And.intro (Or.inl rfl) (And.intro (Or.inl rfl) (And.intro (Or.inl rfl) (trivial)))))) (trivial) ?_
  obtain ⟨n, w⟩ := w
  exact l_X1_bind_239 n _ _ _ _ _ _ w
def W_X1_bind_202 (D : JD) (d : Nat) (Q : JO → JH → Prop) (r0 : Nat) (r1 : Nat) (x3 : Int32) (x4 : Int32) (x6 : Int32) (h : JH) : Prop :=
  (0 ≤ x6 → W_X1_bind_222 D d Q r0 r1 x3 x4 x6 h) ∧ (¬ 0 ≤ x6 → r0 ≠ 0 ∧ ((¬ (jfi h 11 r0) = (4 : Int32) → W_X1_bind_222 D d Q r0 r1 x3 x4 x6 h) ∧ ((jfi h 11 r0) = (4 : Int32) → cX1_fault D d (jcs D 205) h (pR D h 9 (fun v_6 h_4 => v_6 ≠ 0 ∧ (Q (.inr v_6) h_4)) (jth Q)))))
theorem w_X1_bind_202 {D : JD} {d : Nat} {Q : JO → JH → Prop} {r0 : Nat} {r1 : Nat} {x3 : Int32} {x4 : Int32} {x6 : Int32} {h : JH} (w : W_X1_bind_202 D d Q r0 r1 x3 x4 x6 h) : JW D (d + 1) mX1_bind 202 [some (vR 1 r0), some (vR 37 r1), none, some (vI x3), some (vI x4), none, some (vI x6), none, none] [] h Q := by
  unfold W_X1_bind_202 at w
  refine jw_iload (pc' := 204) rfl rfl ?_
  refine jw_if_ge (tgt := 222) (pc' := 207) rfl rfl (fun c_1 => ?_) (fun c_1 => ?_)
  · replace w := w.1 c_1
    exact w_X1_bind_222 w
  · replace w := w.2 c_1
    refine jw_aload_n (pc' := 208) rfl rfl ?_
    obtain ⟨g_2, w⟩ := w
    refine jw_getI (pc' := 211) (F := 11) rfl rfl rfl rfl g_2 ?_
    refine jw_iconst (pc' := 212) (x := (4 : Int32)) rfl rfl ?_
    refine jw_icmp_ne (tgt := 222) (pc' := 215) rfl rfl (fun c_3 => ?_) (fun c_3 => ?_)
    · replace w := w.1 c_3
      exact w_X1_bind_222 w
    · replace w := w.2 c_3
      refine jw_ldcwS (pc' := 218) rfl rfl rfl rfl ?_
      refine jw_cR (st := []) (sa := [vR 51 (jcs D 205)]) okX1_fault rfl rfl rfl rfl rfl rfl (jstp_static (sa := [vR 51 (jcs D 205)]) (st := []) rfl rfl sX1_fault okX1_fault rfl rfl) w (fun v_6 h_4 _ _ _ w => ?_)
      obtain ⟨g_7, w⟩ := w
      exact jw_athrow rfl rfl g_7 w
def W_X1_bind_88 (D : JD) (d : Nat) (Q : JO → JH → Prop) (r0 : Nat) (h : JH) : Prop :=
  r0 ≠ 0 ∧ (cX1_protocol D d r0 h (pR D h 9 (fun v_4 h_2 => v_4 ≠ 0 ∧ (Q (.inr v_4) h_2)) (jth Q)))
theorem w_X1_bind_88 {D : JD} {d : Nat} {Q : JO → JH → Prop} {r0 : Nat} {h : JH} (w : W_X1_bind_88 D d Q r0 h) : JW D (d + 1) mX1_bind 88 [some (vR 1 r0), none, none, none, none, none, none, none, none] [] h Q := by
  unfold W_X1_bind_88 at w
  refine jw_aload_n (pc' := 89) rfl rfl ?_
  obtain ⟨g_1, w⟩ := w
  refine jw_cR (st := []) (sa := [vR 1 r0]) okX1_protocol rfl rfl rfl rfl rfl rfl (jstp_virtual (sa := []) (st := []) (k := 0) rfl rfl sX1_protocol okX1_protocol g_1 (one1.k g_1) rfl rfl) w (fun v_4 h_2 _ _ _ w => ?_)
  obtain ⟨g_5, w⟩ := w
  exact jw_athrow rfl rfl g_5 w
def W_X1_bind_50 (D : JD) (d : Nat) (Q : JO → JH → Prop) (K50 : Nat → Nat → Nat → Int32 → Int32 → Int32 → JH → Prop) (r0 : Nat) (r1 : Nat) (r2 : Nat) (x3 : Int32) (x4 : Int32) (x5 : Int32) (h : JH) : Prop :=
  (x3 ≤ x5 → r0 ≠ 0 ∧ (cX1_formats D d r0 h (pV D h (fun h_3 => cX1_all D d r0 h_3 (pV D h_3 (fun h_6 => cX1_statement D d r0 r2 h_6 (pI D h_6 (fun v_11 h_9 => (0 ≤ v_11 → (jfr h_9 8 r0) ≠ 0 ∧ jin v_11 (jln h_9 (jfr h_9 8 r0)) ∧ (r1 ≠ 0 ∧ ∀ h_16 : JH, h_16 = wfr h_9 170 r1 (jar h_9 (jfr h_9 8 r0) (ixn v_11)) → ((jfr h_16 170 r1) ≠ 0 ∧ ((jfr h_16 168 (jfr h_16 170 r1)) ≠ 0 ∧ ((x3 = (nI (jln h_16 (jfr h_16 168 (jfr h_16 170 r1)))) → cX1_portal D d r0 (jfr h_16 169 r1) h_16 (pI D h_16 (fun v_23 h_21 => (v_23 < 0 → W_X1_bind_202 D d Q r0 r1 x3 x4 v_23 h_21) ∧ (¬ v_23 < 0 → (jfr h_21 169 r1) ≠ 0 ∧ (cJ5_length D d (jfr h_21 169 r1) h_21 (pI D h_21 (fun v_28 h_26 => (v_28 ≤ 0 → W_X1_bind_202 D d Q r0 r1 x3 x4 v_23 h_26) ∧ (¬ v_28 ≤ 0 → cX1_fault D d (jcs D 207) h_26 (pR D h_26 9 (fun v_32 h_30 => v_32 ≠ 0 ∧ (Q (.inr v_32) h_30)) (jth Q)))) (jth Q))))) (jth Q))) ∧ (¬ x3 = (nI (jln h_16 (jfr h_16 168 (jfr h_16 170 r1)))) → cX1_protocol D d r0 h_16 (pR D h_16 9 (fun v_36 h_34 => v_36 ≠ 0 ∧ (Q (.inr v_36) h_34)) (jth Q)))))))) ∧ (¬ 0 ≤ v_11 → cX1_fault D d (jcs D 206) h_9 (pR D h_9 9 (fun v_40 h_38 => v_40 ≠ 0 ∧ (Q (.inr v_40) h_38)) (jth Q)))) (jth Q))) (jth Q))) (jth Q)))) ∧ (¬ x3 ≤ x5 → r0 ≠ 0 ∧ (cX1_number D d r0 (4 : Int32) h (pL D h (fun v_44 h_43 => ((lg_cmp v_44 (-1 : Int64)) < 0 → W_X1_bind_88 D d Q r0 h_43) ∧ (¬ (lg_cmp v_44 (-1 : Int64)) < 0 → ((lg_cmp v_44 (Int32.toInt64 ((jfi h_43 14 r0) - (jfi h_43 13 r0)))) ≤ 0 → cJ15_max_2 D d (0 : Int64) v_44 h_43 (pL D h_43 (fun v_48 h_47 => ∀ h_49 : JH, h_49 = wfi h_47 13 r0 ((jfi h_43 13 r0) + (Int64.toInt32 v_48)) → (K50 r0 r1 r2 x3 x4 (x5 + (1 : Int32)) h_49)) (jth Q))) ∧ (¬ (lg_cmp v_44 (Int32.toInt64 ((jfi h_43 14 r0) - (jfi h_43 13 r0)))) ≤ 0 → W_X1_bind_88 D d Q r0 h_43))) (jth Q))))
theorem w_X1_bind_50 {D : JD} {d : Nat} {Q : JO → JH → Prop} {K50 : Nat → Nat → Nat → Int32 → Int32 → Int32 → JH → Prop} {r0 : Nat} {r1 : Nat} {r2 : Nat} {x3 : Int32} {x4 : Int32} {x5 : Int32} {h : JH} (hK50 : ∀ (r0 : Nat) (r1 : Nat) (r2 : Nat) (x3 : Int32) (x4 : Int32) (x5 : Int32) (h : JH), K50 r0 r1 r2 x3 x4 x5 h → JW D (d + 1) mX1_bind 50 [some (vR 1 r0), some (vR 37 r1), some (vR 64 r2), some (vI x3), some (vI x4), some (vI x5), none, none, none] [] h Q) (w : W_X1_bind_50 D d Q K50 r0 r1 r2 x3 x4 x5 h) : JW D (d + 1) mX1_bind 50 [some (vR 1 r0), some (vR 37 r1), some (vR 64 r2), some (vI x3), some (vI x4), some (vI x5), none, none, none] [] h Q := by
  unfold W_X1_bind_50 at w
  refine jw_iload (pc' := 52) rfl rfl ?_
  refine jw_iload_n (pc' := 53) rfl rfl ?_
  refine jw_icmp_ge (tgt := 115) (pc' := 56) rfl rfl (fun c_1 => ?_) (fun c_1 => ?_)
  · replace w := w.1 c_1
    refine jw_aload_n (pc' := 116) rfl rfl ?_
    obtain ⟨g_2, w⟩ := w
    refine jw_cV (st := []) (sa := [vR 1 r0]) okX1_formats rfl rfl rfl rfl rfl rfl (jstp_virtual (sa := []) (st := []) (k := 0) rfl rfl sX1_formats okX1_formats g_2 (one1.k g_2) rfl rfl) w (fun h_3 _ _ w => ?_)
    refine jw_aload_n (pc' := 120) rfl rfl ?_
    refine jw_cV (st := []) (sa := [vR 1 r0]) okX1_all rfl rfl rfl rfl rfl rfl (jstp_virtual (sa := []) (st := []) (k := 0) rfl rfl sX1_all okX1_all g_2 (one1.k g_2) rfl rfl) w (fun h_6 _ _ w => ?_)
    refine jw_aload_n (pc' := 124) rfl rfl ?_
    refine jw_aload_n (pc' := 125) rfl rfl ?_
    refine jw_cI (st := []) (sa := [vR 1 r0, vR 64 r2]) okX1_statement rfl rfl rfl rfl rfl rfl (jstp_virtual (sa := [vR 64 r2]) (st := []) (k := 0) rfl rfl sX1_statement okX1_statement g_2 (one1.k g_2) rfl rfl) w (fun v_11 h_9 _ _ w => ?_)
    refine jw_istore (pc' := 130) (ls' := [some (vR 1 r0), some (vR 37 r1), some (vR 64 r2), some (vI x3), some (vI x4), some (vI v_11), none, none, none]) rfl (by decide) rfl ?_
    refine jw_iload (pc' := 132) rfl rfl ?_
    refine jw_if_ge (tgt := 142) (pc' := 135) rfl rfl (fun c_12 => ?_) (fun c_12 => ?_)
    · replace w := w.1 c_12
      refine jw_aload_n (pc' := 143) rfl rfl ?_
      refine jw_aload_n (pc' := 144) rfl rfl ?_
      refine jw_getR (pc' := 147) (F := 8) (t' := 124) rfl rfl rfl rfl rfl g_2 ?_
      refine jw_iload (pc' := 149) rfl rfl ?_
      obtain ⟨g_13, w⟩ := w
      obtain ⟨g_14, w⟩ := w
      refine jw_aald (pc' := 150) (t' := 36) rfl rfl rfl rfl g_13 g_14.ix g_14.2 ?_
      obtain ⟨g_15, w⟩ := w
      refine jw_putR' (pc' := 153) (F := 170) rfl rfl rfl (Or.inr rfl) (Or.inl rfl) rfl rfl rfl g_15 (fun h_16 e_17 => ?_)
      replace w := w h_16 e_17
      refine jw_iload_n (pc' := 154) rfl rfl ?_
      refine jw_aload_n (pc' := 155) rfl rfl ?_
      refine jw_getR (pc' := 158) (F := 170) (t' := 36) rfl rfl rfl rfl rfl g_15 ?_
      obtain ⟨g_18, w⟩ := w
      refine jw_getR (pc' := 161) (F := 168) (t' := 161) rfl rfl rfl rfl rfl g_18 ?_
      obtain ⟨g_19, w⟩ := w
      refine jw_alen (pc' := 162) rfl rfl g_19 ?_
      refine jw_icmp_eq (tgt := 170) (pc' := 165) rfl rfl (fun c_20 => ?_) (fun c_20 => ?_)
      · replace w := w.1 c_20
        refine jw_aload_n (pc' := 171) rfl rfl ?_
        refine jw_aload_n (pc' := 172) rfl rfl ?_
        refine jw_getR (pc' := 175) (F := 169) (t' := 64) rfl rfl rfl rfl rfl g_15 ?_
        refine jw_cI (st := []) (sa := [vR 1 r0, vR 64 (jfr h_16 169 r1)]) okX1_portal rfl rfl rfl rfl rfl rfl (jstp_virtual (sa := [vR 64 (jfr h_16 169 r1)]) (st := []) (k := 0) rfl rfl sX1_portal okX1_portal g_2 (one1.k g_2) rfl rfl) w (fun v_23 h_21 _ _ w => ?_)
        refine jw_istore (pc' := 180) (ls' := [some (vR 1 r0), some (vR 37 r1), some (vR 64 r2), some (vI x3), some (vI x4), some (vI v_11), some (vI v_23), none, none]) rfl (by decide) rfl ?_
        refine jw_iload (pc' := 182) rfl rfl ?_
        refine jw_if_lt (tgt := 202) (pc' := 185) rfl rfl (fun c_24 => ?_) (fun c_24 => ?_)
        · replace w := w.1 c_24
          refine jw_gen (ls' := [some (vR 1 r0), some (vR 37 r1), none, some (vI x3), some (vI x4), none, some (vI v_23), none, none]) (st' := []) (And.intro (Or.inl rfl) (And.intro (Or.inl rfl) (And.intro (Or.inl rfl) (And.intro (Or.inl rfl) (And.intro (Or.inl rfl) (trivial)))))) (trivial) ?_
          exact w_X1_bind_202 w
        · replace w := w.2 c_24
          refine jw_aload_n (pc' := 186) rfl rfl ?_
          refine jw_getR (pc' := 189) (F := 169) (t' := 64) rfl rfl rfl rfl rfl g_15 ?_
          obtain ⟨g_25, w⟩ := w
          refine jw_cI (st := []) (sa := [vR 64 (jfr h_21 169 r1)]) okJ5_length rfl rfl rfl rfl rfl rfl (jstp_virtual (sa := []) (st := []) (k := 0) rfl rfl sJ5_length okJ5_length g_25 (one64.k g_25) rfl rfl) w (fun v_28 h_26 _ _ w => ?_)
          refine jw_if_le (tgt := 202) (pc' := 195) rfl rfl (fun c_29 => ?_) (fun c_29 => ?_)
          · replace w := w.1 c_29
            refine jw_gen (ls' := [some (vR 1 r0), some (vR 37 r1), none, some (vI x3), some (vI x4), none, some (vI v_23), none, none]) (st' := []) (And.intro (Or.inl rfl) (And.intro (Or.inl rfl) (And.intro (Or.inl rfl) (And.intro (Or.inl rfl) (And.intro (Or.inl rfl) (trivial)))))) (trivial) ?_
            exact w_X1_bind_202 w
          · replace w := w.2 c_29
            refine jw_ldcwS (pc' := 198) rfl rfl rfl rfl ?_
            refine jw_cR (st := []) (sa := [vR 51 (jcs D 207)]) okX1_fault rfl rfl rfl rfl rfl rfl (jstp_static (sa := [vR 51 (jcs D 207)]) (st := []) rfl rfl sX1_fault okX1_fault rfl rfl) w (fun v_32 h_30 _ _ _ w => ?_)
            obtain ⟨g_33, w⟩ := w
            exact jw_athrow rfl rfl g_33 w
      · replace w := w.2 c_20
        refine jw_aload_n (pc' := 166) rfl rfl ?_
        refine jw_cR (st := []) (sa := [vR 1 r0]) okX1_protocol rfl rfl rfl rfl rfl rfl (jstp_virtual (sa := []) (st := []) (k := 0) rfl rfl sX1_protocol okX1_protocol g_2 (one1.k g_2) rfl rfl) w (fun v_36 h_34 _ _ _ w => ?_)
        obtain ⟨g_37, w⟩ := w
        exact jw_athrow rfl rfl g_37 w
    · replace w := w.2 c_12
      refine jw_ldcwS (pc' := 138) rfl rfl rfl rfl ?_
      refine jw_cR (st := []) (sa := [vR 51 (jcs D 206)]) okX1_fault rfl rfl rfl rfl rfl rfl (jstp_static (sa := [vR 51 (jcs D 206)]) (st := []) rfl rfl sX1_fault okX1_fault rfl rfl) w (fun v_40 h_38 _ _ _ w => ?_)
      obtain ⟨g_41, w⟩ := w
      exact jw_athrow rfl rfl g_41 w
  · replace w := w.2 c_1
    refine jw_aload_n (pc' := 57) rfl rfl ?_
    refine jw_iconst (pc' := 58) (x := (4 : Int32)) rfl rfl ?_
    obtain ⟨g_42, w⟩ := w
    refine jw_cL (st := []) (sa := [vR 1 r0, vI (4 : Int32)]) okX1_number rfl rfl rfl rfl rfl rfl (jstp_virtual (sa := [vI (4 : Int32)]) (st := []) (k := 0) rfl rfl sX1_number okX1_number g_42 (one1.k g_42) rfl rfl) w (fun v_44 h_43 _ _ w => ?_)
    refine jw_lstore (pc' := 63) (ls' := [some (vR 1 r0), some (vR 37 r1), some (vR 64 r2), some (vI x3), some (vI x4), some (vI x5), some (vL v_44), none, none]) rfl (by decide) rfl ?_
    refine jw_lload (pc' := 65) rfl rfl ?_
    refine jw_ldc2 (pc' := 68) (v := (-1 : Int64)) rfl rfl ?_
    refine jw_lcmp (pc' := 69) rfl ?_
    refine jw_if_lt (tgt := 88) (pc' := 72) rfl rfl (fun c_45 => ?_) (fun c_45 => ?_)
    · replace w := w.1 c_45
      refine jw_gen (ls' := [some (vR 1 r0), none, none, none, none, none, none, none, none]) (st' := []) (And.intro (Or.inl rfl) (trivial)) (trivial) ?_
      exact w_X1_bind_88 w
    · replace w := w.2 c_45
      refine jw_lload (pc' := 74) rfl rfl ?_
      refine jw_aload_n (pc' := 75) rfl rfl ?_
      refine jw_getI (pc' := 78) (F := 14) rfl rfl rfl rfl g_42 ?_
      refine jw_aload_n (pc' := 79) rfl rfl ?_
      refine jw_getI (pc' := 82) (F := 13) rfl rfl rfl rfl g_42 ?_
      refine jw_isub (pc' := 83) rfl ?_
      refine jw_i2l (pc' := 84) rfl ?_
      refine jw_lcmp (pc' := 85) rfl ?_
      refine jw_if_le (tgt := 93) (pc' := 88) rfl rfl (fun c_46 => ?_) (fun c_46 => ?_)
      · replace w := w.1 c_46
        refine jw_aload_n (pc' := 94) rfl rfl ?_
        refine jw_dup (pc' := 95) rfl rfl ?_
        refine jw_getI (pc' := 98) (F := 13) rfl rfl rfl rfl g_42 ?_
        refine jw_lconst (pc' := 99) (x := (0 : Int64)) rfl rfl ?_
        refine jw_lload (pc' := 101) rfl rfl ?_
        refine jw_cL (st := [vI (jfi h_43 13 r0), vR 1 r0]) (sa := [vL (0 : Int64), vL v_44]) okJ15_max_2 rfl rfl rfl rfl rfl rfl (jstp_static (sa := [vL (0 : Int64), vL v_44]) (st := [vI (jfi h_43 13 r0), vR 1 r0]) rfl rfl sJ15_max_2 okJ15_max_2 rfl rfl) w (fun v_48 h_47 _ _ w => ?_)
        refine jw_l2i (pc' := 105) rfl ?_
        refine jw_iadd (pc' := 106) rfl ?_
        refine jw_putI' (pc' := 109) (F := 13) rfl rfl rfl (Or.inr rfl) (Or.inl rfl) rfl (rfl) (rfl) rfl g_42 (fun h_49 e_50 => ?_)
        replace w := w h_49 e_50
        refine jw_iinc (pc' := 112) (y := x5 + (1 : Int32)) (ls' := [some (vR 1 r0), some (vR 37 r1), some (vR 64 r2), some (vI x3), some (vI x4), some (vI (x5 + (1 : Int32))), some (vL v_44), none, none]) rfl (by decide) rfl rfl rfl ?_
        refine jw_goto (pc' := 50) rfl rfl ?_
        refine jw_gen (ls' := [some (vR 1 r0), some (vR 37 r1), some (vR 64 r2), some (vI x3), some (vI x4), some (vI (x5 + (1 : Int32))), none, none, none]) (st' := []) (And.intro (Or.inl rfl) (And.intro (Or.inl rfl) (And.intro (Or.inl rfl) (And.intro (Or.inl rfl) (And.intro (Or.inl rfl) (And.intro (Or.inl rfl) (trivial))))))) (trivial) ?_
        exact hK50 _ _ _ _ _ _ _ w
      · replace w := w.2 c_46
        refine jw_gen (ls' := [some (vR 1 r0), none, none, none, none, none, none, none, none]) (st' := []) (And.intro (Or.inl rfl) (trivial)) (trivial) ?_
        exact w_X1_bind_88 w
def L_X1_bind_50 (D : JD) (d : Nat) (Q : JO → JH → Prop) : Nat → Nat → Nat → Nat → Int32 → Int32 → Int32 → JH → Prop
  | 0 => fun _ _ _ _ _ _ _ => False
  | n + 1 => fun r0 r1 r2 x3 x4 x5 h => W_X1_bind_50 D d Q (L_X1_bind_50 D d Q n) r0 r1 r2 x3 x4 x5 h
theorem l_X1_bind_50 {D : JD} {d : Nat} {Q : JO → JH → Prop} : ∀ (n : Nat) (r0 : Nat) (r1 : Nat) (r2 : Nat) (x3 : Int32) (x4 : Int32) (x5 : Int32) (h : JH), L_X1_bind_50 D d Q n r0 r1 r2 x3 x4 x5 h → JW D (d + 1) mX1_bind 50 [some (vR 1 r0), some (vR 37 r1), some (vR 64 r2), some (vI x3), some (vI x4), some (vI x5), none, none, none] [] h Q := by
  intro n
  induction n with
  | zero => intro _ _ _ _ _ _ _ w; exact w.elim
  | succ n ih => intro _ _ _ _ _ _ h w; exact w_X1_bind_50 ih w
def W_X1_bind_0 (D : JD) (d : Nat) (Q : JO → JH → Prop) (r0 : Nat) (h : JH) : Prop :=
  ∀ (r_1 : Nat) (h_2 : JH), r_1 = jsz h + 1 → h_2 = nwo h 37 6 → (cX44_init D d r_1 h_2 (pV D h_2 (fun h_5 => r0 ≠ 0 ∧ (cX1_string D d r0 h_5 (pR D h_5 64 (fun v_11 h_9 => ∀ h_12 : JH, h_12 = wfr h_9 169 r_1 v_11 → (cX1_string D d r0 h_12 (pR D h_12 64 (fun v_16 h_14 => cX1_formats D d r0 h_14 (pV D h_14 (fun h_17 => cX1_number D d r0 (2 : Int32) h_17 (pL D h_17 (fun v_21 h_20 => (0 ≤ (Int64.toInt32 v_21) → ∃ n, L_X1_bind_50 D d Q n r0 r_1 v_16 (Int64.toInt32 v_21) (jfi h_20 13 r0) (0 : Int32) h_20) ∧ (¬ 0 ≤ (Int64.toInt32 v_21) → cX1_protocol D d r0 h_20 (pR D h_20 9 (fun v_25 h_23 => v_25 ≠ 0 ∧ (Q (.inr v_25) h_23)) (jth Q)))) (jth Q))) (jth Q))) (jth Q)))) (jth Q)))) (jth Q)))
theorem w_X1_bind_0 {D : JD} {d : Nat} {Q : JO → JH → Prop} {r0 : Nat} {h : JH} (w : W_X1_bind_0 D d Q r0 h) : JW D (d + 1) mX1_bind 0 [some (vR 1 r0), none, none, none, none, none, none, none, none] [] h Q := by
  unfold W_X1_bind_0 at w
  refine jw_new' (pc' := 3) (k := 37) (n := 6) rfl rfl rfl rfl rfl rfl rfl (fun r_1 h_2 e_3 e_4 => ?_)
  replace w := w r_1 h_2 e_3 e_4
  refine jw_dup (pc' := 4) rfl rfl ?_
  refine jw_cV (st := [vR 37 r_1]) (sa := [vR 37 r_1]) okX44_init rfl rfl rfl rfl rfl rfl (jstp_init (sa := []) (st := [vR 37 r_1]) rfl rfl sX44_init okX44_init (lw_g (jtb_mem (c := 13) (i := 196) rfl) rfl) (jnz e_3) rfl rfl) w (fun h_5 _ _ w => ?_)
  refine jw_astore_n (pc' := 8) (ls' := [some (vR 1 r0), some (vR 37 r_1), none, none, none, none, none, none, none]) rfl (by decide) rfl ?_
  refine jw_aload_n (pc' := 9) rfl rfl ?_
  refine jw_aload_n (pc' := 10) rfl rfl ?_
  obtain ⟨g_8, w⟩ := w
  refine jw_cR (st := [vR 37 r_1]) (sa := [vR 1 r0]) okX1_string rfl rfl rfl rfl rfl rfl (jstp_virtual (sa := []) (st := [vR 37 r_1]) (k := 0) rfl rfl sX1_string okX1_string g_8 (one1.k g_8) rfl rfl) w (fun v_11 h_9 _ _ _ w => ?_)
  refine jw_putR' (pc' := 16) (F := 169) rfl rfl rfl (Or.inr rfl) (Or.inl rfl) rfl rfl rfl (jnz e_3) (fun h_12 e_13 => ?_)
  replace w := w h_12 e_13
  refine jw_aload_n (pc' := 17) rfl rfl ?_
  refine jw_cR (st := []) (sa := [vR 1 r0]) okX1_string rfl rfl rfl rfl rfl rfl (jstp_virtual (sa := []) (st := []) (k := 0) rfl rfl sX1_string okX1_string g_8 (one1.k g_8) rfl rfl) w (fun v_16 h_14 _ _ _ w => ?_)
  refine jw_astore_n (pc' := 21) (ls' := [some (vR 1 r0), some (vR 37 r_1), some (vR 64 v_16), none, none, none, none, none, none]) rfl (by decide) rfl ?_
  refine jw_aload_n (pc' := 22) rfl rfl ?_
  refine jw_cV (st := []) (sa := [vR 1 r0]) okX1_formats rfl rfl rfl rfl rfl rfl (jstp_virtual (sa := []) (st := []) (k := 0) rfl rfl sX1_formats okX1_formats g_8 (one1.k g_8) rfl rfl) w (fun h_17 _ _ w => ?_)
  refine jw_aload_n (pc' := 26) rfl rfl ?_
  refine jw_iconst (pc' := 27) (x := (2 : Int32)) rfl rfl ?_
  refine jw_cL (st := []) (sa := [vR 1 r0, vI (2 : Int32)]) okX1_number rfl rfl rfl rfl rfl rfl (jstp_virtual (sa := [vI (2 : Int32)]) (st := []) (k := 0) rfl rfl sX1_number okX1_number g_8 (one1.k g_8) rfl rfl) w (fun v_21 h_20 _ _ w => ?_)
  refine jw_l2i (pc' := 31) rfl ?_
  refine jw_istore_n (pc' := 32) (ls' := [some (vR 1 r0), some (vR 37 r_1), some (vR 64 v_16), some (vI (Int64.toInt32 v_21)), none, none, none, none, none]) rfl (by decide) rfl ?_
  refine jw_iload_n (pc' := 33) rfl rfl ?_
  refine jw_if_ge (tgt := 41) (pc' := 36) rfl rfl (fun c_22 => ?_) (fun c_22 => ?_)
  · replace w := w.1 c_22
    refine jw_aload_n (pc' := 42) rfl rfl ?_
    refine jw_getI (pc' := 45) (F := 13) rfl rfl rfl rfl g_8 ?_
    refine jw_istore (pc' := 47) (ls' := [some (vR 1 r0), some (vR 37 r_1), some (vR 64 v_16), some (vI (Int64.toInt32 v_21)), some (vI (jfi h_20 13 r0)), none, none, none, none]) rfl (by decide) rfl ?_
    refine jw_iconst (pc' := 48) (x := (0 : Int32)) rfl rfl ?_
    refine jw_istore (pc' := 50) (ls' := [some (vR 1 r0), some (vR 37 r_1), some (vR 64 v_16), some (vI (Int64.toInt32 v_21)), some (vI (jfi h_20 13 r0)), some (vI (0 : Int32)), none, none, none]) rfl (by decide) rfl ?_
    obtain ⟨n, w⟩ := w
    exact l_X1_bind_50 n _ _ _ _ _ _ _ w
  · replace w := w.2 c_22
    refine jw_aload_n (pc' := 37) rfl rfl ?_
    refine jw_cR (st := []) (sa := [vR 1 r0]) okX1_protocol rfl rfl rfl rfl rfl rfl (jstp_virtual (sa := []) (st := []) (k := 0) rfl rfl sX1_protocol okX1_protocol g_8 (one1.k g_8) rfl rfl) w (fun v_25 h_23 _ _ _ w => ?_)
    obtain ⟨g_26, w⟩ := w
    exact jw_athrow rfl rfl g_26 w
def T_X1_bind (D : JD) (d : Nat) (Q : JO → JH → Prop) (r0 : Nat) (h : JH) : Prop := W_X1_bind_0 D d Q r0 h
theorem t_X1_bind {D : JD} {d : Nat} {Q : JO → JH → Prop} {r0 : Nat} {h : JH} (w : T_X1_bind D d Q r0 h) : cX1_bind D (d + 1) r0 h Q := by
  unfold T_X1_bind at w
  unfold cX1_bind
  exact w_X1_bind_0 w
def W_X1_formats_18 (D : JD) (d : Nat) (Q : JO → JH → Prop) (K18 : Nat → Int32 → Int32 → JH → Prop) (r0 : Nat) (x1 : Int32) (x2 : Int32) (h : JH) : Prop :=
  (x1 ≤ x2 → Q (.inl none) h) ∧ (¬ x1 ≤ x2 → r0 ≠ 0 ∧ (cX1_number D d r0 (2 : Int32) h (pL D h (fun v_4 h_3 => ((lg_cmp v_4 (0 : Int64)) = 0 → K18 r0 x1 (x2 + (1 : Int32)) h_3) ∧ (¬ (lg_cmp v_4 (0 : Int64)) = 0 → cX1_protocol D d r0 h_3 (pR D h_3 9 (fun v_8 h_6 => v_8 ≠ 0 ∧ (Q (.inr v_8) h_6)) (jth Q)))) (jth Q))))
theorem w_X1_formats_18 {D : JD} {d : Nat} {Q : JO → JH → Prop} {K18 : Nat → Int32 → Int32 → JH → Prop} {r0 : Nat} {x1 : Int32} {x2 : Int32} {h : JH} (hK18 : ∀ (r0 : Nat) (x1 : Int32) (x2 : Int32) (h : JH), K18 r0 x1 x2 h → JW D (d + 1) mX1_formats 18 [some (vR 1 r0), some (vI x1), some (vI x2)] [] h Q) (w : W_X1_formats_18 D d Q K18 r0 x1 x2 h) : JW D (d + 1) mX1_formats 18 [some (vR 1 r0), some (vI x1), some (vI x2)] [] h Q := by
  unfold W_X1_formats_18 at w
  refine jw_iload_n (pc' := 19) rfl rfl ?_
  refine jw_iload_n (pc' := 20) rfl rfl ?_
  refine jw_icmp_ge (tgt := 44) (pc' := 23) rfl rfl (fun c_1 => ?_) (fun c_1 => ?_)
  · replace w := w.1 c_1
    exact jw_return rfl rfl w
  · replace w := w.2 c_1
    refine jw_aload_n (pc' := 24) rfl rfl ?_
    refine jw_iconst (pc' := 25) (x := (2 : Int32)) rfl rfl ?_
    obtain ⟨g_2, w⟩ := w
    refine jw_cL (st := []) (sa := [vR 1 r0, vI (2 : Int32)]) okX1_number rfl rfl rfl rfl rfl rfl (jstp_virtual (sa := [vI (2 : Int32)]) (st := []) (k := 0) rfl rfl sX1_number okX1_number g_2 (one1.k g_2) rfl rfl) w (fun v_4 h_3 _ _ w => ?_)
    refine jw_lconst (pc' := 29) (x := (0 : Int64)) rfl rfl ?_
    refine jw_lcmp (pc' := 30) rfl ?_
    refine jw_if_eq (tgt := 38) (pc' := 33) rfl rfl (fun c_5 => ?_) (fun c_5 => ?_)
    · replace w := w.1 c_5
      refine jw_iinc (pc' := 41) (y := x2 + (1 : Int32)) (ls' := [some (vR 1 r0), some (vI x1), some (vI (x2 + (1 : Int32)))]) rfl (by decide) rfl rfl rfl ?_
      refine jw_goto (pc' := 18) rfl rfl ?_
      exact hK18 _ _ _ _ w
    · replace w := w.2 c_5
      refine jw_aload_n (pc' := 34) rfl rfl ?_
      refine jw_cR (st := []) (sa := [vR 1 r0]) okX1_protocol rfl rfl rfl rfl rfl rfl (jstp_virtual (sa := []) (st := []) (k := 0) rfl rfl sX1_protocol okX1_protocol g_2 (one1.k g_2) rfl rfl) w (fun v_8 h_6 _ _ _ w => ?_)
      obtain ⟨g_9, w⟩ := w
      exact jw_athrow rfl rfl g_9 w
def L_X1_formats_18 (D : JD) (d : Nat) (Q : JO → JH → Prop) : Nat → Nat → Int32 → Int32 → JH → Prop
  | 0 => fun _ _ _ _ => False
  | n + 1 => fun r0 x1 x2 h => W_X1_formats_18 D d Q (L_X1_formats_18 D d Q n) r0 x1 x2 h
theorem l_X1_formats_18 {D : JD} {d : Nat} {Q : JO → JH → Prop} : ∀ (n : Nat) (r0 : Nat) (x1 : Int32) (x2 : Int32) (h : JH), L_X1_formats_18 D d Q n r0 x1 x2 h → JW D (d + 1) mX1_formats 18 [some (vR 1 r0), some (vI x1), some (vI x2)] [] h Q := by
  intro n
  induction n with
  | zero => intro _ _ _ _ w; exact w.elim
  | succ n ih => intro _ _ _ h w; exact w_X1_formats_18 ih w
def W_X1_formats_0 (D : JD) (d : Nat) (Q : JO → JH → Prop) (r0 : Nat) (h : JH) : Prop :=
  r0 ≠ 0 ∧ (cX1_number D d r0 (2 : Int32) h (pL D h (fun v_3 h_2 => (0 ≤ (Int64.toInt32 v_3) → ∃ n, L_X1_formats_18 D d Q n r0 (Int64.toInt32 v_3) (0 : Int32) h_2) ∧ (¬ 0 ≤ (Int64.toInt32 v_3) → cX1_protocol D d r0 h_2 (pR D h_2 9 (fun v_7 h_5 => v_7 ≠ 0 ∧ (Q (.inr v_7) h_5)) (jth Q)))) (jth Q)))
theorem w_X1_formats_0 {D : JD} {d : Nat} {Q : JO → JH → Prop} {r0 : Nat} {h : JH} (w : W_X1_formats_0 D d Q r0 h) : JW D (d + 1) mX1_formats 0 [some (vR 1 r0), none, none] [] h Q := by
  unfold W_X1_formats_0 at w
  refine jw_aload_n (pc' := 1) rfl rfl ?_
  refine jw_iconst (pc' := 2) (x := (2 : Int32)) rfl rfl ?_
  obtain ⟨g_1, w⟩ := w
  refine jw_cL (st := []) (sa := [vR 1 r0, vI (2 : Int32)]) okX1_number rfl rfl rfl rfl rfl rfl (jstp_virtual (sa := [vI (2 : Int32)]) (st := []) (k := 0) rfl rfl sX1_number okX1_number g_1 (one1.k g_1) rfl rfl) w (fun v_3 h_2 _ _ w => ?_)
  refine jw_l2i (pc' := 6) rfl ?_
  refine jw_istore_n (pc' := 7) (ls' := [some (vR 1 r0), some (vI (Int64.toInt32 v_3)), none]) rfl (by decide) rfl ?_
  refine jw_iload_n (pc' := 8) rfl rfl ?_
  refine jw_if_ge (tgt := 16) (pc' := 11) rfl rfl (fun c_4 => ?_) (fun c_4 => ?_)
  · replace w := w.1 c_4
    refine jw_iconst (pc' := 17) (x := (0 : Int32)) rfl rfl ?_
    refine jw_istore_n (pc' := 18) (ls' := [some (vR 1 r0), some (vI (Int64.toInt32 v_3)), some (vI (0 : Int32))]) rfl (by decide) rfl ?_
    obtain ⟨n, w⟩ := w
    exact l_X1_formats_18 n _ _ _ _ w
  · replace w := w.2 c_4
    refine jw_aload_n (pc' := 12) rfl rfl ?_
    refine jw_cR (st := []) (sa := [vR 1 r0]) okX1_protocol rfl rfl rfl rfl rfl rfl (jstp_virtual (sa := []) (st := []) (k := 0) rfl rfl sX1_protocol okX1_protocol g_1 (one1.k g_1) rfl rfl) w (fun v_7 h_5 _ _ _ w => ?_)
    obtain ⟨g_8, w⟩ := w
    exact jw_athrow rfl rfl g_8 w
def T_X1_formats (D : JD) (d : Nat) (Q : JO → JH → Prop) (r0 : Nat) (h : JH) : Prop := W_X1_formats_0 D d Q r0 h
theorem t_X1_formats {D : JD} {d : Nat} {Q : JO → JH → Prop} {r0 : Nat} {h : JH} (w : T_X1_formats D d Q r0 h) : cX1_formats D (d + 1) r0 h Q := by
  unfold T_X1_formats at w
  unfold cX1_formats
  exact w_X1_formats_0 w
def W_X1_portal_2 (D : JD) (d : Nat) (Q : JO → JH → Prop) (K2 : Nat → Nat → Int32 → JH → Prop) (r0 : Nat) (r1 : Nat) (x2 : Int32) (h : JH) : Prop :=
  r0 ≠ 0 ∧ (((jfi h 11 r0) ≤ x2 → Q (.inl (some (vI (-1 : Int32)))) h) ∧ (¬ (jfi h 11 r0) ≤ x2 → (jfr h 10 r0) ≠ 0 ∧ jin x2 (jln h (jfr h 10 r0)) ∧ ((jar h (jfr h 10 r0) (ixn x2)) ≠ 0 ∧ ((jfr h 169 (jar h (jfr h 10 r0) (ixn x2))) ≠ 0 ∧ (cJ5_equals D d (jfr h 169 (jar h (jfr h 10 r0) (ixn x2))) r1 h (pI D h (fun v_9 h_7 => (v_9 = 0 → K2 r0 r1 (x2 + (1 : Int32)) h_7) ∧ (¬ v_9 = 0 → Q (.inl (some (vI x2))) h_7)) (jth Q)))))))
theorem w_X1_portal_2 {D : JD} {d : Nat} {Q : JO → JH → Prop} {K2 : Nat → Nat → Int32 → JH → Prop} {r0 : Nat} {r1 : Nat} {x2 : Int32} {h : JH} (hK2 : ∀ (r0 : Nat) (r1 : Nat) (x2 : Int32) (h : JH), K2 r0 r1 x2 h → JW D (d + 1) mX1_portal 2 [some (vR 1 r0), some (vR 64 r1), some (vI x2)] [] h Q) (w : W_X1_portal_2 D d Q K2 r0 r1 x2 h) : JW D (d + 1) mX1_portal 2 [some (vR 1 r0), some (vR 64 r1), some (vI x2)] [] h Q := by
  unfold W_X1_portal_2 at w
  refine jw_iload_n (pc' := 3) rfl rfl ?_
  refine jw_aload_n (pc' := 4) rfl rfl ?_
  obtain ⟨g_1, w⟩ := w
  refine jw_getI (pc' := 7) (F := 11) rfl rfl rfl rfl g_1 ?_
  refine jw_icmp_ge (tgt := 34) (pc' := 10) rfl rfl (fun c_2 => ?_) (fun c_2 => ?_)
  · replace w := w.1 c_2
    refine jw_iconst (pc' := 35) (x := (-1 : Int32)) rfl rfl ?_
    exact jw_ireturn rfl rfl (rfl) w
  · replace w := w.2 c_2
    refine jw_aload_n (pc' := 11) rfl rfl ?_
    refine jw_getR (pc' := 14) (F := 10) (t' := 125) rfl rfl rfl rfl rfl g_1 ?_
    refine jw_iload_n (pc' := 15) rfl rfl ?_
    obtain ⟨g_3, w⟩ := w
    obtain ⟨g_4, w⟩ := w
    refine jw_aald (pc' := 16) (t' := 37) rfl rfl rfl rfl g_3 g_4.ix g_4.2 ?_
    obtain ⟨g_5, w⟩ := w
    refine jw_getR (pc' := 19) (F := 169) (t' := 64) rfl rfl rfl rfl rfl g_5 ?_
    refine jw_aload_n (pc' := 20) rfl rfl ?_
    obtain ⟨g_6, w⟩ := w
    refine jw_cI (st := []) (sa := [vR 64 (jfr h 169 (jar h (jfr h 10 r0) (ixn x2))), vR 64 r1]) okJ5_equals rfl rfl rfl rfl rfl rfl (jstp_virtual (sa := [vR 64 r1]) (st := []) (k := 0) rfl rfl sJ5_equals okJ5_equals g_6 (one64.k g_6) rfl rfl) w (fun v_9 h_7 _ _ w => ?_)
    refine jw_if_eq (tgt := 28) (pc' := 26) rfl rfl (fun c_10 => ?_) (fun c_10 => ?_)
    · replace w := w.1 c_10
      refine jw_iinc (pc' := 31) (y := x2 + (1 : Int32)) (ls' := [some (vR 1 r0), some (vR 64 r1), some (vI (x2 + (1 : Int32)))]) rfl (by decide) rfl rfl rfl ?_
      refine jw_goto (pc' := 2) rfl rfl ?_
      exact hK2 _ _ _ _ w
    · replace w := w.2 c_10
      refine jw_iload_n (pc' := 27) rfl rfl ?_
      exact jw_ireturn rfl rfl (rfl) w
def L_X1_portal_2 (D : JD) (d : Nat) (Q : JO → JH → Prop) : Nat → Nat → Nat → Int32 → JH → Prop
  | 0 => fun _ _ _ _ => False
  | n + 1 => fun r0 r1 x2 h => W_X1_portal_2 D d Q (L_X1_portal_2 D d Q n) r0 r1 x2 h
theorem l_X1_portal_2 {D : JD} {d : Nat} {Q : JO → JH → Prop} : ∀ (n : Nat) (r0 : Nat) (r1 : Nat) (x2 : Int32) (h : JH), L_X1_portal_2 D d Q n r0 r1 x2 h → JW D (d + 1) mX1_portal 2 [some (vR 1 r0), some (vR 64 r1), some (vI x2)] [] h Q := by
  intro n
  induction n with
  | zero => intro _ _ _ _ w; exact w.elim
  | succ n ih => intro _ _ _ h w; exact w_X1_portal_2 ih w
def W_X1_portal_0 (D : JD) (d : Nat) (Q : JO → JH → Prop) (r0 : Nat) (r1 : Nat) (h : JH) : Prop :=
  ∃ n, L_X1_portal_2 D d Q n r0 r1 (0 : Int32) h
theorem w_X1_portal_0 {D : JD} {d : Nat} {Q : JO → JH → Prop} {r0 : Nat} {r1 : Nat} {h : JH} (w : W_X1_portal_0 D d Q r0 r1 h) : JW D (d + 1) mX1_portal 0 [some (vR 1 r0), some (vR 64 r1), none] [] h Q := by
  unfold W_X1_portal_0 at w
  refine jw_iconst (pc' := 1) (x := (0 : Int32)) rfl rfl ?_
  refine jw_istore_n (pc' := 2) (ls' := [some (vR 1 r0), some (vR 64 r1), some (vI (0 : Int32))]) rfl (by decide) rfl ?_
  obtain ⟨n, w⟩ := w
  exact l_X1_portal_2 n _ _ _ _ w
def T_X1_portal (D : JD) (d : Nat) (Q : JO → JH → Prop) (r0 : Nat) (r1 : Nat) (h : JH) : Prop := W_X1_portal_0 D d Q r0 r1 h
theorem t_X1_portal {D : JD} {d : Nat} {Q : JO → JH → Prop} {r0 : Nat} {r1 : Nat} {h : JH} (w : T_X1_portal D d Q r0 r1 h) : cX1_portal D (d + 1) r0 r1 h Q := by
  unfold T_X1_portal at w
  unfold cX1_portal
  exact w_X1_portal_0 w
def W_X1_value_348 (D : JD) (d : Nat) (Q : JO → JH → Prop) (q0 : Nat) (t1 : Int64) (h : JH) : Prop :=
  q0 ≠ 0 ∧ (cX14_number D d q0 t1 h (pR D h 8 (fun v_4 h_2 => Q (.inl none) h_2) (jth Q)))
theorem w_X1_value_348 {D : JD} {d : Nat} {Q : JO → JH → Prop} {q0 : Nat} {t1 : Int64} {h : JH} (w : W_X1_value_348 D d Q q0 t1 h) : JW D (d + 1) mX1_value 348 [none, none, none, none, none, none, none, none, none, none, none, none] [vL t1, vR 8 q0] h Q := by
  unfold W_X1_value_348 at w
  obtain ⟨g_1, w⟩ := w
  refine jw_cR (st := []) (sa := [vR 8 q0, vL t1]) okX14_number rfl rfl rfl rfl rfl rfl (jstp_virtual (sa := [vL t1]) (st := []) (k := 0) rfl rfl sX14_number okX14_number g_1 (one8.k g_1) rfl rfl) w (fun v_4 h_2 _ _ _ w => ?_)
  refine jw_pop (pc' := 352) rfl rfl ?_
  exact jw_return rfl rfl w
def W_X1_value_290 (D : JD) (d : Nat) (Q : JO → JH → Prop) (r4 : Nat) (h : JH) : Prop :=
  r4 ≠ 0 ∧ (Q (.inr r4) h)
theorem w_X1_value_290 {D : JD} {d : Nat} {Q : JO → JH → Prop} {r4 : Nat} {h : JH} (w : W_X1_value_290 D d Q r4 h) : JW D (d + 1) mX1_value 290 [none, none, none, none, some (vR 9 r4), none, none, none, none, none, none, none] [] h Q := by
  unfold W_X1_value_290 at w
  refine jw_aload (pc' := 292) rfl rfl ?_
  obtain ⟨g_1, w⟩ := w
  exact jw_athrow rfl rfl g_1 w
def W_X1_value_257 (D : JD) (d : Nat) (Q : JO → JH → Prop) (K257 : Nat → Nat → Nat → Int32 → Int64 → Int32 → JH → Prop) (r1 : Nat) (r4 : Nat) (r6 : Nat) (x7 : Int32) (y8 : Int64) (x10 : Int32) (h : JH) : Prop :=
  r6 ≠ 0 ∧ (cJ5_length D d r6 h (pI D h (fun v_4 h_2 => (v_4 ≤ x10 → ((lg_cmp y8 (9007199254740991 : Int64)) ≤ 0 → (¬ x7 = (1 : Int32) → W_X1_value_348 D d Q r1 y8 h_2) ∧ (x7 = (1 : Int32) → W_X1_value_348 D d Q r1 (-y8) h_2)) ∧ (¬ (lg_cmp y8 (9007199254740991 : Int64)) ≤ 0 → r4 ≠ 0 ∧ (Q (.inr r4) h_2))) ∧ (¬ v_4 ≤ x10 → cJ5_charAt D d r6 x10 h_2 (pI D h_2 (fun v_11 h_9 => (v_11 < (48 : Int32) → W_X1_value_290 D d Q r4 h_9) ∧ (¬ v_11 < (48 : Int32) → (v_11 ≤ (57 : Int32) → cJ15_min_2 D d ((((10 : Int64) * y8) + (Int32.toInt64 v_11)) - (48 : Int64)) (100000000000000000 : Int64) h_9 (pL D h_9 (fun v_15 h_14 => K257 r1 r4 r6 x7 v_15 (x10 + (1 : Int32)) h_14) (jth Q))) ∧ (¬ v_11 ≤ (57 : Int32) → W_X1_value_290 D d Q r4 h_9))) (jth Q)))) (jth Q)))
theorem w_X1_value_257 {D : JD} {d : Nat} {Q : JO → JH → Prop} {K257 : Nat → Nat → Nat → Int32 → Int64 → Int32 → JH → Prop} {r1 : Nat} {r4 : Nat} {r6 : Nat} {x7 : Int32} {y8 : Int64} {x10 : Int32} {h : JH} (hK257 : ∀ (r1 : Nat) (r4 : Nat) (r6 : Nat) (x7 : Int32) (y8 : Int64) (x10 : Int32) (h : JH), K257 r1 r4 r6 x7 y8 x10 h → JW D (d + 1) mX1_value 257 [none, some (vR 8 r1), none, none, some (vR 9 r4), none, some (vR 64 r6), some (vI x7), some (vL y8), none, some (vI x10), none] [] h Q) (w : W_X1_value_257 D d Q K257 r1 r4 r6 x7 y8 x10 h) : JW D (d + 1) mX1_value 257 [none, some (vR 8 r1), none, none, some (vR 9 r4), none, some (vR 64 r6), some (vI x7), some (vL y8), none, some (vI x10), none] [] h Q := by
  unfold W_X1_value_257 at w
  refine jw_iload (pc' := 259) rfl rfl ?_
  refine jw_aload (pc' := 261) rfl rfl ?_
  obtain ⟨g_1, w⟩ := w
  refine jw_cI (st := [vI x10]) (sa := [vR 64 r6]) okJ5_length rfl rfl rfl rfl rfl rfl (jstp_virtual (sa := []) (st := [vI x10]) (k := 0) rfl rfl sJ5_length okJ5_length g_1 (one64.k g_1) rfl rfl) w (fun v_4 h_2 _ _ w => ?_)
  refine jw_icmp_ge (tgt := 321) (pc' := 267) rfl rfl (fun c_5 => ?_) (fun c_5 => ?_)
  · replace w := w.1 c_5
    refine jw_lload (pc' := 323) rfl rfl ?_
    refine jw_ldc2 (pc' := 326) (v := (9007199254740991 : Int64)) rfl rfl ?_
    refine jw_lcmp (pc' := 327) rfl ?_
    refine jw_if_le (tgt := 333) (pc' := 330) rfl rfl (fun c_6 => ?_) (fun c_6 => ?_)
    · replace w := w.1 c_6
      refine jw_aload_n (pc' := 334) rfl rfl ?_
      refine jw_iload (pc' := 336) rfl rfl ?_
      refine jw_iconst (pc' := 337) (x := (1 : Int32)) rfl rfl ?_
      refine jw_icmp_ne (tgt := 346) (pc' := 340) rfl rfl (fun c_7 => ?_) (fun c_7 => ?_)
      · replace w := w.1 c_7
        refine jw_lload (pc' := 348) rfl rfl ?_
        refine jw_gen (ls' := [none, none, none, none, none, none, none, none, none, none, none, none]) (st' := [vL y8, vR 8 r1]) (trivial) (And.intro (Or.inl rfl) (And.intro (Or.inl rfl) (trivial))) ?_
        exact w_X1_value_348 w
      · replace w := w.2 c_7
        refine jw_lload (pc' := 342) rfl rfl ?_
        refine jw_lneg (pc' := 343) rfl ?_
        refine jw_goto (pc' := 348) rfl rfl ?_
        refine jw_gen (ls' := [none, none, none, none, none, none, none, none, none, none, none, none]) (st' := [vL (-y8), vR 8 r1]) (trivial) (And.intro (Or.inl rfl) (And.intro (Or.inl rfl) (trivial))) ?_
        exact w_X1_value_348 w
    · replace w := w.2 c_6
      refine jw_aload (pc' := 332) rfl rfl ?_
      obtain ⟨g_8, w⟩ := w
      exact jw_athrow rfl rfl g_8 w
  · replace w := w.2 c_5
    refine jw_aload (pc' := 269) rfl rfl ?_
    refine jw_iload (pc' := 271) rfl rfl ?_
    refine jw_cI (st := []) (sa := [vR 64 r6, vI x10]) okJ5_charAt rfl rfl rfl rfl rfl rfl (jstp_virtual (sa := [vI x10]) (st := []) (k := 0) rfl rfl sJ5_charAt okJ5_charAt g_1 (one64.k g_1) rfl rfl) w (fun v_11 h_9 _ _ w => ?_)
    refine jw_istore (pc' := 276) (ls' := [none, some (vR 8 r1), none, none, some (vR 9 r4), none, some (vR 64 r6), some (vI x7), some (vL y8), none, some (vI x10), some (vI v_11)]) rfl (by decide) rfl ?_
    refine jw_iload (pc' := 278) rfl rfl ?_
    refine jw_bipush (pc' := 280) (x := (48 : Int32)) rfl rfl ?_
    refine jw_icmp_lt (tgt := 290) (pc' := 283) rfl rfl (fun c_12 => ?_) (fun c_12 => ?_)
    · replace w := w.1 c_12
      refine jw_gen (ls' := [none, none, none, none, some (vR 9 r4), none, none, none, none, none, none, none]) (st' := []) (And.intro (Or.inl rfl) (trivial)) (trivial) ?_
      exact w_X1_value_290 w
    · replace w := w.2 c_12
      refine jw_iload (pc' := 285) rfl rfl ?_
      refine jw_bipush (pc' := 287) (x := (57 : Int32)) rfl rfl ?_
      refine jw_icmp_le (tgt := 293) (pc' := 290) rfl rfl (fun c_13 => ?_) (fun c_13 => ?_)
      · replace w := w.1 c_13
        refine jw_ldc2 (pc' := 296) (v := (10 : Int64)) rfl rfl ?_
        refine jw_lload (pc' := 298) rfl rfl ?_
        refine jw_lmul (pc' := 299) rfl ?_
        refine jw_iload (pc' := 301) rfl rfl ?_
        refine jw_i2l (pc' := 302) rfl ?_
        refine jw_ladd (pc' := 303) rfl ?_
        refine jw_ldc2 (pc' := 306) (v := (48 : Int64)) rfl rfl ?_
        refine jw_lsub (pc' := 307) rfl ?_
        refine jw_ldc2 (pc' := 310) (v := (100000000000000000 : Int64)) rfl rfl ?_
        refine jw_cL (st := []) (sa := [vL ((((10 : Int64) * y8) + (Int32.toInt64 v_11)) - (48 : Int64)), vL (100000000000000000 : Int64)]) okJ15_min_2 rfl rfl rfl rfl rfl rfl (jstp_static (sa := [vL ((((10 : Int64) * y8) + (Int32.toInt64 v_11)) - (48 : Int64)), vL (100000000000000000 : Int64)]) (st := []) rfl rfl sJ15_min_2 okJ15_min_2 rfl rfl) w (fun v_15 h_14 _ _ w => ?_)
        refine jw_lstore (pc' := 315) (ls' := [none, some (vR 8 r1), none, none, some (vR 9 r4), none, some (vR 64 r6), some (vI x7), some (vL v_15), none, some (vI x10), some (vI v_11)]) rfl (by decide) rfl ?_
        refine jw_iinc (pc' := 318) (y := x10 + (1 : Int32)) (ls' := [none, some (vR 8 r1), none, none, some (vR 9 r4), none, some (vR 64 r6), some (vI x7), some (vL v_15), none, some (vI (x10 + (1 : Int32))), some (vI v_11)]) rfl (by decide) rfl rfl rfl ?_
        refine jw_goto (pc' := 257) rfl rfl ?_
        refine jw_gen (ls' := [none, some (vR 8 r1), none, none, some (vR 9 r4), none, some (vR 64 r6), some (vI x7), some (vL v_15), none, some (vI (x10 + (1 : Int32))), none]) (st' := []) (And.intro (Or.inl rfl) (And.intro (Or.inl rfl) (And.intro (Or.inl rfl) (And.intro (Or.inl rfl) (And.intro (Or.inl rfl) (And.intro (Or.inl rfl) (trivial))))))) (trivial) ?_
        exact hK257 _ _ _ _ _ _ _ w
      · replace w := w.2 c_13
        refine jw_gen (ls' := [none, none, none, none, some (vR 9 r4), none, none, none, none, none, none, none]) (st' := []) (And.intro (Or.inl rfl) (trivial)) (trivial) ?_
        exact w_X1_value_290 w
def L_X1_value_257 (D : JD) (d : Nat) (Q : JO → JH → Prop) : Nat → Nat → Nat → Nat → Int32 → Int64 → Int32 → JH → Prop
  | 0 => fun _ _ _ _ _ _ _ => False
  | n + 1 => fun r1 r4 r6 x7 y8 x10 h => W_X1_value_257 D d Q (L_X1_value_257 D d Q n) r1 r4 r6 x7 y8 x10 h
theorem l_X1_value_257 {D : JD} {d : Nat} {Q : JO → JH → Prop} : ∀ (n : Nat) (r1 : Nat) (r4 : Nat) (r6 : Nat) (x7 : Int32) (y8 : Int64) (x10 : Int32) (h : JH), L_X1_value_257 D d Q n r1 r4 r6 x7 y8 x10 h → JW D (d + 1) mX1_value 257 [none, some (vR 8 r1), none, none, some (vR 9 r4), none, some (vR 64 r6), some (vI x7), some (vL y8), none, some (vI x10), none] [] h Q := by
  intro n
  induction n with
  | zero => intro _ _ _ _ _ _ _ w; exact w.elim
  | succ n ih => intro _ _ _ _ _ _ h w; exact w_X1_value_257 ih w
def W_X1_value_235 (D : JD) (d : Nat) (Q : JO → JH → Prop) (r1 : Nat) (r4 : Nat) (r6 : Nat) (s0 : Int32) (h : JH) : Prop :=
  r6 ≠ 0 ∧ (cJ5_length D d r6 h (pI D h (fun v_4 h_2 => (¬ s0 = v_4 → ∃ n, L_X1_value_257 D d Q n r1 r4 r6 s0 (0 : Int64) s0 h_2) ∧ (s0 = v_4 → r4 ≠ 0 ∧ (Q (.inr r4) h_2))) (jth Q)))
theorem w_X1_value_235 {D : JD} {d : Nat} {Q : JO → JH → Prop} {r1 : Nat} {r4 : Nat} {r6 : Nat} {s0 : Int32} {h : JH} (w : W_X1_value_235 D d Q r1 r4 r6 s0 h) : JW D (d + 1) mX1_value 235 [none, some (vR 8 r1), none, none, some (vR 9 r4), none, some (vR 64 r6), none, none, none, none, none] [vI s0] h Q := by
  unfold W_X1_value_235 at w
  refine jw_istore (pc' := 237) (ls' := [none, some (vR 8 r1), none, none, some (vR 9 r4), none, some (vR 64 r6), some (vI s0), none, none, none, none]) rfl (by decide) rfl ?_
  refine jw_iload (pc' := 239) rfl rfl ?_
  refine jw_aload (pc' := 241) rfl rfl ?_
  obtain ⟨g_1, w⟩ := w
  refine jw_cI (st := [vI s0]) (sa := [vR 64 r6]) okJ5_length rfl rfl rfl rfl rfl rfl (jstp_virtual (sa := []) (st := [vI s0]) (k := 0) rfl rfl sJ5_length okJ5_length g_1 (one64.k g_1) rfl rfl) w (fun v_4 h_2 _ _ w => ?_)
  refine jw_icmp_ne (tgt := 250) (pc' := 247) rfl rfl (fun c_5 => ?_) (fun c_5 => ?_)
  · replace w := w.1 c_5
    refine jw_lconst (pc' := 251) (x := (0 : Int64)) rfl rfl ?_
    refine jw_lstore (pc' := 253) (ls' := [none, some (vR 8 r1), none, none, some (vR 9 r4), none, some (vR 64 r6), some (vI s0), some (vL (0 : Int64)), none, none, none]) rfl (by decide) rfl ?_
    refine jw_iload (pc' := 255) rfl rfl ?_
    refine jw_istore (pc' := 257) (ls' := [none, some (vR 8 r1), none, none, some (vR 9 r4), none, some (vR 64 r6), some (vI s0), some (vL (0 : Int64)), none, some (vI s0), none]) rfl (by decide) rfl ?_
    obtain ⟨n, w⟩ := w
    exact l_X1_value_257 n _ _ _ _ _ _ _ w
  · replace w := w.2 c_5
    refine jw_aload (pc' := 249) rfl rfl ?_
    obtain ⟨g_6, w⟩ := w
    exact jw_athrow rfl rfl g_6 w
def W_X1_value_211 (D : JD) (d : Nat) (Q : JO → JH → Prop) (r1 : Nat) (x7 : Int32) (h : JH) : Prop :=
  r1 ≠ 0 ∧ (cX14_truth D d r1 x7 h (pR D h 8 (fun v_4 h_2 => Q (.inl none) h_2) (jth Q)))
theorem w_X1_value_211 {D : JD} {d : Nat} {Q : JO → JH → Prop} {r1 : Nat} {x7 : Int32} {h : JH} (w : W_X1_value_211 D d Q r1 x7 h) : JW D (d + 1) mX1_value 211 [none, some (vR 8 r1), none, none, none, none, none, some (vI x7), none, none, none, none] [] h Q := by
  unfold W_X1_value_211 at w
  refine jw_aload_n (pc' := 212) rfl rfl ?_
  refine jw_iload (pc' := 214) rfl rfl ?_
  obtain ⟨g_1, w⟩ := w
  refine jw_cR (st := []) (sa := [vR 8 r1, vI x7]) okX14_truth rfl rfl rfl rfl rfl rfl (jstp_virtual (sa := [vI x7]) (st := []) (k := 0) rfl rfl sX14_truth okX14_truth g_1 (one8.k g_1) rfl rfl) w (fun v_4 h_2 _ _ _ w => ?_)
  refine jw_pop (pc' := 218) rfl rfl ?_
  exact jw_return rfl rfl w
def W_X1_value_179 (D : JD) (d : Nat) (Q : JO → JH → Prop) (r1 : Nat) (r4 : Nat) (r6 : Nat) (s0 : Int32) (h : JH) : Prop :=
  (¬ s0 = 0 → W_X1_value_211 D d Q r1 s0 h) ∧ (s0 = 0 → r6 ≠ 0 ∧ (cJ5_equals D d r6 (jcs D 211) h (pI D h (fun v_5 h_3 => (¬ v_5 = 0 → W_X1_value_211 D d Q r1 s0 h_3) ∧ (v_5 = 0 → cJ5_equals D d r6 (jcs D 212) h_3 (pI D h_3 (fun v_9 h_7 => (¬ v_9 = 0 → W_X1_value_211 D d Q r1 s0 h_7) ∧ (v_9 = 0 → r4 ≠ 0 ∧ (Q (.inr r4) h_7))) (jth Q)))) (jth Q))))
theorem w_X1_value_179 {D : JD} {d : Nat} {Q : JO → JH → Prop} {r1 : Nat} {r4 : Nat} {r6 : Nat} {s0 : Int32} {h : JH} (w : W_X1_value_179 D d Q r1 r4 r6 s0 h) : JW D (d + 1) mX1_value 179 [none, some (vR 8 r1), none, none, some (vR 9 r4), none, some (vR 64 r6), none, none, none, none, none] [vI s0] h Q := by
  unfold W_X1_value_179 at w
  refine jw_istore (pc' := 181) (ls' := [none, some (vR 8 r1), none, none, some (vR 9 r4), none, some (vR 64 r6), some (vI s0), none, none, none, none]) rfl (by decide) rfl ?_
  refine jw_iload (pc' := 183) rfl rfl ?_
  refine jw_if_ne (tgt := 211) (pc' := 186) rfl rfl (fun c_1 => ?_) (fun c_1 => ?_)
  · replace w := w.1 c_1
    refine jw_gen (ls' := [none, some (vR 8 r1), none, none, none, none, none, some (vI s0), none, none, none, none]) (st' := []) (And.intro (Or.inl rfl) (And.intro (Or.inl rfl) (trivial))) (trivial) ?_
    exact w_X1_value_211 w
  · replace w := w.2 c_1
    refine jw_aload (pc' := 188) rfl rfl ?_
    refine jw_ldcwS (pc' := 191) rfl rfl rfl rfl ?_
    obtain ⟨g_2, w⟩ := w
    refine jw_cI (st := []) (sa := [vR 64 r6, vR 51 (jcs D 211)]) okJ5_equals rfl rfl rfl rfl rfl rfl (jstp_virtual (sa := [vR 51 (jcs D 211)]) (st := []) (k := 0) rfl rfl sJ5_equals okJ5_equals g_2 (one64.k g_2) rfl rfl) w (fun v_5 h_3 _ _ w => ?_)
    refine jw_if_ne (tgt := 211) (pc' := 197) rfl rfl (fun c_6 => ?_) (fun c_6 => ?_)
    · replace w := w.1 c_6
      refine jw_gen (ls' := [none, some (vR 8 r1), none, none, none, none, none, some (vI s0), none, none, none, none]) (st' := []) (And.intro (Or.inl rfl) (And.intro (Or.inl rfl) (trivial))) (trivial) ?_
      exact w_X1_value_211 w
    · replace w := w.2 c_6
      refine jw_aload (pc' := 199) rfl rfl ?_
      refine jw_ldcwS (pc' := 202) rfl rfl rfl rfl ?_
      refine jw_cI (st := []) (sa := [vR 64 r6, vR 51 (jcs D 212)]) okJ5_equals rfl rfl rfl rfl rfl rfl (jstp_virtual (sa := [vR 51 (jcs D 212)]) (st := []) (k := 0) rfl rfl sJ5_equals okJ5_equals g_2 (one64.k g_2) rfl rfl) w (fun v_9 h_7 _ _ w => ?_)
      refine jw_if_ne (tgt := 211) (pc' := 208) rfl rfl (fun c_10 => ?_) (fun c_10 => ?_)
      · replace w := w.1 c_10
        refine jw_gen (ls' := [none, some (vR 8 r1), none, none, none, none, none, some (vI s0), none, none, none, none]) (st' := []) (And.intro (Or.inl rfl) (And.intro (Or.inl rfl) (trivial))) (trivial) ?_
        exact w_X1_value_211 w
      · replace w := w.2 c_10
        refine jw_aload (pc' := 210) rfl rfl ?_
        obtain ⟨g_11, w⟩ := w
        exact jw_athrow rfl rfl g_11 w
def W_X1_value_174 (D : JD) (d : Nat) (Q : JO → JH → Prop) (r1 : Nat) (r4 : Nat) (r6 : Nat) (h : JH) : Prop :=
  W_X1_value_179 D d Q r1 r4 r6 (1 : Int32) h
theorem w_X1_value_174 {D : JD} {d : Nat} {Q : JO → JH → Prop} {r1 : Nat} {r4 : Nat} {r6 : Nat} {h : JH} (w : W_X1_value_174 D d Q r1 r4 r6 h) : JW D (d + 1) mX1_value 174 [none, some (vR 8 r1), none, none, some (vR 9 r4), none, some (vR 64 r6), none, none, none, none, none] [] h Q := by
  unfold W_X1_value_174 at w
  refine jw_iconst (pc' := 175) (x := (1 : Int32)) rfl rfl ?_
  refine jw_goto (pc' := 179) rfl rfl ?_
  exact w_X1_value_179 w
def W_X1_value_103 (D : JD) (d : Nat) (Q : JO → JH → Prop) (K103 : Nat → Nat → Nat → Int32 → Nat → Nat → Int32 → JH → Prop) (r0 : Nat) (r1 : Nat) (r2 : Nat) (x3 : Int32) (r4 : Nat) (r5 : Nat) (x6 : Int32) (h : JH) : Prop :=
  (x3 ≤ x6 → r5 ≠ 0 ∧ (cJ13_toString D d r5 h (pR D h 64 (fun v_5 h_3 => (¬ r2 = (jcs D 357) → v_5 ≠ 0 ∧ (cJ5_startsWith D d v_5 (jcs D 213) h_3 (pI D h_3 (fun v_10 h_8 => (v_10 = 0 → W_X1_value_235 D d Q r1 r4 v_5 (0 : Int32) h_8) ∧ (¬ v_10 = 0 → W_X1_value_235 D d Q r1 r4 v_5 (1 : Int32) h_8)) (jth Q)))) ∧ (r2 = (jcs D 357) → v_5 ≠ 0 ∧ (cJ5_equals D d v_5 (jcs D 209) h_3 (pI D h_3 (fun v_15 h_13 => (¬ v_15 = 0 → W_X1_value_174 D d Q r1 r4 v_5 h_13) ∧ (v_15 = 0 → cJ5_equals D d v_5 (jcs D 210) h_13 (pI D h_13 (fun v_19 h_17 => (v_19 = 0 → W_X1_value_179 D d Q r1 r4 v_5 (0 : Int32) h_17) ∧ (¬ v_19 = 0 → W_X1_value_174 D d Q r1 r4 v_5 h_17)) (jth Q)))) (jth Q))))) (jth Q)))) ∧ (¬ x3 ≤ x6 → r0 ≠ 0 ∧ ((jfr h 2 r0) ≠ 0 ∧ jin ((jfi h 13 r0) + x6) (jln h (jfr h 2 r0)) ∧ (r5 ≠ 0 ∧ (cJ13_append D d r5 ((Int32.toUInt32 ((jai h (jfr h 2 r0) (ixn ((jfi h 13 r0) + x6))) &&& (255 : Int32)) % 65536).toInt32) h (pR D h 11 (fun v_27 h_25 => K103 r0 r1 r2 x3 r4 r5 (x6 + (1 : Int32)) h_25) (jth Q))))))
theorem w_X1_value_103 {D : JD} {d : Nat} {Q : JO → JH → Prop} {K103 : Nat → Nat → Nat → Int32 → Nat → Nat → Int32 → JH → Prop} {r0 : Nat} {r1 : Nat} {r2 : Nat} {x3 : Int32} {r4 : Nat} {r5 : Nat} {x6 : Int32} {h : JH} (hK103 : ∀ (r0 : Nat) (r1 : Nat) (r2 : Nat) (x3 : Int32) (r4 : Nat) (r5 : Nat) (x6 : Int32) (h : JH), K103 r0 r1 r2 x3 r4 r5 x6 h → JW D (d + 1) mX1_value 103 [some (vR 1 r0), some (vR 8 r1), some (vR 52 r2), some (vI x3), some (vR 9 r4), some (vR 11 r5), some (vI x6), none, none, none, none, none] [] h Q) (w : W_X1_value_103 D d Q K103 r0 r1 r2 x3 r4 r5 x6 h) : JW D (d + 1) mX1_value 103 [some (vR 1 r0), some (vR 8 r1), some (vR 52 r2), some (vI x3), some (vR 9 r4), some (vR 11 r5), some (vI x6), none, none, none, none, none] [] h Q := by
  unfold W_X1_value_103 at w
  refine jw_iload (pc' := 105) rfl rfl ?_
  refine jw_iload_n (pc' := 106) rfl rfl ?_
  refine jw_icmp_ge (tgt := 138) (pc' := 109) rfl rfl (fun c_1 => ?_) (fun c_1 => ?_)
  · replace w := w.1 c_1
    refine jw_aload (pc' := 140) rfl rfl ?_
    obtain ⟨g_2, w⟩ := w
    refine jw_cR (st := []) (sa := [vR 11 r5]) okJ13_toString rfl rfl rfl rfl rfl rfl (jstp_virtual (sa := []) (st := []) (k := 0) rfl rfl sJ13_toString okJ13_toString g_2 (one11.k g_2) rfl rfl) w (fun v_5 h_3 _ _ _ w => ?_)
    refine jw_astore (pc' := 145) (ls' := [some (vR 1 r0), some (vR 8 r1), some (vR 52 r2), some (vI x3), some (vR 9 r4), some (vR 11 r5), some (vR 64 v_5), none, none, none, none, none]) rfl (by decide) rfl ?_
    refine jw_aload_n (pc' := 146) rfl rfl ?_
    refine jw_getsR (pc' := 149) rfl rfl rfl rfl ?_
    refine jw_acmp_ne (tgt := 219) (pc' := 152) rfl rfl (fun c_6 => ?_) (fun c_6 => ?_)
    · replace w := w.1 c_6
      refine jw_aload (pc' := 221) rfl rfl ?_
      refine jw_ldcwS (pc' := 224) rfl rfl rfl rfl ?_
      obtain ⟨g_7, w⟩ := w
      refine jw_cI (st := []) (sa := [vR 64 v_5, vR 51 (jcs D 213)]) okJ5_startsWith rfl rfl rfl rfl rfl rfl (jstp_virtual (sa := [vR 51 (jcs D 213)]) (st := []) (k := 0) rfl rfl sJ5_startsWith okJ5_startsWith g_7 (one64.k g_7) rfl rfl) w (fun v_10 h_8 _ _ w => ?_)
      refine jw_if_eq (tgt := 234) (pc' := 230) rfl rfl (fun c_11 => ?_) (fun c_11 => ?_)
      · replace w := w.1 c_11
        refine jw_iconst (pc' := 235) (x := (0 : Int32)) rfl rfl ?_
        refine jw_gen (ls' := [none, some (vR 8 r1), none, none, some (vR 9 r4), none, some (vR 64 v_5), none, none, none, none, none]) (st' := [vI (0 : Int32)]) (And.intro (Or.inl rfl) (And.intro (Or.inl rfl) (And.intro (Or.inl rfl) (trivial)))) (And.intro (Or.inl rfl) (trivial)) ?_
        exact w_X1_value_235 w
      · replace w := w.2 c_11
        refine jw_iconst (pc' := 231) (x := (1 : Int32)) rfl rfl ?_
        refine jw_goto (pc' := 235) rfl rfl ?_
        refine jw_gen (ls' := [none, some (vR 8 r1), none, none, some (vR 9 r4), none, some (vR 64 v_5), none, none, none, none, none]) (st' := [vI (1 : Int32)]) (And.intro (Or.inl rfl) (And.intro (Or.inl rfl) (And.intro (Or.inl rfl) (trivial)))) (And.intro (Or.inl rfl) (trivial)) ?_
        exact w_X1_value_235 w
    · replace w := w.2 c_6
      refine jw_aload (pc' := 154) rfl rfl ?_
      refine jw_ldcwS (pc' := 157) rfl rfl rfl rfl ?_
      obtain ⟨g_12, w⟩ := w
      refine jw_cI (st := []) (sa := [vR 64 v_5, vR 51 (jcs D 209)]) okJ5_equals rfl rfl rfl rfl rfl rfl (jstp_virtual (sa := [vR 51 (jcs D 209)]) (st := []) (k := 0) rfl rfl sJ5_equals okJ5_equals g_12 (one64.k g_12) rfl rfl) w (fun v_15 h_13 _ _ w => ?_)
      refine jw_if_ne (tgt := 174) (pc' := 163) rfl rfl (fun c_16 => ?_) (fun c_16 => ?_)
      · replace w := w.1 c_16
        refine jw_gen (ls' := [none, some (vR 8 r1), none, none, some (vR 9 r4), none, some (vR 64 v_5), none, none, none, none, none]) (st' := []) (And.intro (Or.inl rfl) (And.intro (Or.inl rfl) (And.intro (Or.inl rfl) (trivial)))) (trivial) ?_
        exact w_X1_value_174 w
      · replace w := w.2 c_16
        refine jw_aload (pc' := 165) rfl rfl ?_
        refine jw_ldcwS (pc' := 168) rfl rfl rfl rfl ?_
        refine jw_cI (st := []) (sa := [vR 64 v_5, vR 51 (jcs D 210)]) okJ5_equals rfl rfl rfl rfl rfl rfl (jstp_virtual (sa := [vR 51 (jcs D 210)]) (st := []) (k := 0) rfl rfl sJ5_equals okJ5_equals g_12 (one64.k g_12) rfl rfl) w (fun v_19 h_17 _ _ w => ?_)
        refine jw_if_eq (tgt := 178) (pc' := 174) rfl rfl (fun c_20 => ?_) (fun c_20 => ?_)
        · replace w := w.1 c_20
          refine jw_iconst (pc' := 179) (x := (0 : Int32)) rfl rfl ?_
          refine jw_gen (ls' := [none, some (vR 8 r1), none, none, some (vR 9 r4), none, some (vR 64 v_5), none, none, none, none, none]) (st' := [vI (0 : Int32)]) (And.intro (Or.inl rfl) (And.intro (Or.inl rfl) (And.intro (Or.inl rfl) (trivial)))) (And.intro (Or.inl rfl) (trivial)) ?_
          exact w_X1_value_179 w
        · replace w := w.2 c_20
          refine jw_gen (ls' := [none, some (vR 8 r1), none, none, some (vR 9 r4), none, some (vR 64 v_5), none, none, none, none, none]) (st' := []) (And.intro (Or.inl rfl) (And.intro (Or.inl rfl) (And.intro (Or.inl rfl) (trivial)))) (trivial) ?_
          exact w_X1_value_174 w
  · replace w := w.2 c_1
    refine jw_aload (pc' := 111) rfl rfl ?_
    refine jw_aload_n (pc' := 112) rfl rfl ?_
    obtain ⟨g_21, w⟩ := w
    refine jw_getR (pc' := 115) (F := 2) (t' := 123) rfl rfl rfl rfl rfl g_21 ?_
    refine jw_aload_n (pc' := 116) rfl rfl ?_
    refine jw_getI (pc' := 119) (F := 13) rfl rfl rfl rfl g_21 ?_
    refine jw_iload (pc' := 121) rfl rfl ?_
    refine jw_iadd (pc' := 122) rfl ?_
    obtain ⟨g_22, w⟩ := w
    obtain ⟨g_23, w⟩ := w
    refine jw_bald (pc' := 123) rfl rfl rfl rfl g_22 g_23.ix g_23.2 ?_
    refine jw_sipush (pc' := 126) (x := (255 : Int32)) rfl rfl ?_
    refine jw_iand (pc' := 127) rfl ?_
    refine jw_i2c (pc' := 128) rfl ?_
    obtain ⟨g_24, w⟩ := w
    refine jw_cR (st := []) (sa := [vR 11 r5, vI ((Int32.toUInt32 ((jai h (jfr h 2 r0) (ixn ((jfi h 13 r0) + x6))) &&& (255 : Int32)) % 65536).toInt32)]) okJ13_append rfl rfl rfl rfl rfl rfl (jstp_virtual (sa := [vI ((Int32.toUInt32 ((jai h (jfr h 2 r0) (ixn ((jfi h 13 r0) + x6))) &&& (255 : Int32)) % 65536).toInt32)]) (st := []) (k := 0) rfl rfl sJ13_append okJ13_append g_24 (one11.k g_24) rfl rfl) w (fun v_27 h_25 _ _ _ w => ?_)
    refine jw_pop (pc' := 132) rfl rfl ?_
    refine jw_iinc (pc' := 135) (y := x6 + (1 : Int32)) (ls' := [some (vR 1 r0), some (vR 8 r1), some (vR 52 r2), some (vI x3), some (vR 9 r4), some (vR 11 r5), some (vI (x6 + (1 : Int32))), none, none, none, none, none]) rfl (by decide) rfl rfl rfl ?_
    refine jw_goto (pc' := 103) rfl rfl ?_
    exact hK103 _ _ _ _ _ _ _ _ w
def L_X1_value_103 (D : JD) (d : Nat) (Q : JO → JH → Prop) : Nat → Nat → Nat → Nat → Int32 → Nat → Nat → Int32 → JH → Prop
  | 0 => fun _ _ _ _ _ _ _ _ => False
  | n + 1 => fun r0 r1 r2 x3 r4 r5 x6 h => W_X1_value_103 D d Q (L_X1_value_103 D d Q n) r0 r1 r2 x3 r4 r5 x6 h
theorem l_X1_value_103 {D : JD} {d : Nat} {Q : JO → JH → Prop} : ∀ (n : Nat) (r0 : Nat) (r1 : Nat) (r2 : Nat) (x3 : Int32) (r4 : Nat) (r5 : Nat) (x6 : Int32) (h : JH), L_X1_value_103 D d Q n r0 r1 r2 x3 r4 r5 x6 h → JW D (d + 1) mX1_value 103 [some (vR 1 r0), some (vR 8 r1), some (vR 52 r2), some (vI x3), some (vR 9 r4), some (vR 11 r5), some (vI x6), none, none, none, none, none] [] h Q := by
  intro n
  induction n with
  | zero => intro _ _ _ _ _ _ _ _ w; exact w.elim
  | succ n ih => intro _ _ _ _ _ _ _ h w; exact w_X1_value_103 ih w
def W_X1_value_67 (D : JD) (d : Nat) (Q : JO → JH → Prop) (r4 : Nat) (h : JH) : Prop :=
  r4 ≠ 0 ∧ (Q (.inr r4) h)
theorem w_X1_value_67 {D : JD} {d : Nat} {Q : JO → JH → Prop} {r4 : Nat} {h : JH} (w : W_X1_value_67 D d Q r4 h) : JW D (d + 1) mX1_value 67 [none, none, none, none, some (vR 9 r4), none, none, none, none, none, none, none] [] h Q := by
  unfold W_X1_value_67 at w
  refine jw_aload (pc' := 69) rfl rfl ?_
  obtain ⟨g_1, w⟩ := w
  exact jw_athrow rfl rfl g_1 w
def W_X1_value_27 (D : JD) (d : Nat) (Q : JO → JH → Prop) (K27 : Nat → Nat → Int32 → Nat → Int32 → JH → Prop) (r0 : Nat) (r1 : Nat) (x3 : Int32) (r4 : Nat) (x5 : Int32) (h : JH) : Prop :=
  (x3 ≤ x5 → r0 ≠ 0 ∧ (r1 ≠ 0 ∧ (cX14_text D d r1 (jfr h 2 r0) (jfi h 13 r0) x3 h (pR D h 8 (fun v_6 h_4 => Q (.inl none) h_4) (jth Q))))) ∧ (¬ x3 ≤ x5 → r0 ≠ 0 ∧ ((jfr h 2 r0) ≠ 0 ∧ jin ((jfi h 13 r0) + x5) (jln h (jfr h 2 r0)) ∧ (((jai h (jfr h 2 r0) (ixn ((jfi h 13 r0) + x5))) < (32 : Int32) → W_X1_value_67 D d Q r4 h) ∧ (¬ (jai h (jfr h 2 r0) (ixn ((jfi h 13 r0) + x5))) < (32 : Int32) → jin ((jfi h 13 r0) + x5) (jln h (jfr h 2 r0)) ∧ (((jai h (jfr h 2 r0) (ixn ((jfi h 13 r0) + x5))) ≤ (126 : Int32) → K27 r0 r1 x3 r4 (x5 + (1 : Int32)) h) ∧ (¬ (jai h (jfr h 2 r0) (ixn ((jfi h 13 r0) + x5))) ≤ (126 : Int32) → W_X1_value_67 D d Q r4 h))))))
theorem w_X1_value_27 {D : JD} {d : Nat} {Q : JO → JH → Prop} {K27 : Nat → Nat → Int32 → Nat → Int32 → JH → Prop} {r0 : Nat} {r1 : Nat} {x3 : Int32} {r4 : Nat} {x5 : Int32} {h : JH} (hK27 : ∀ (r0 : Nat) (r1 : Nat) (x3 : Int32) (r4 : Nat) (x5 : Int32) (h : JH), K27 r0 r1 x3 r4 x5 h → JW D (d + 1) mX1_value 27 [some (vR 1 r0), some (vR 8 r1), none, some (vI x3), some (vR 9 r4), some (vI x5), none, none, none, none, none, none] [] h Q) (w : W_X1_value_27 D d Q K27 r0 r1 x3 r4 x5 h) : JW D (d + 1) mX1_value 27 [some (vR 1 r0), some (vR 8 r1), none, some (vI x3), some (vR 9 r4), some (vI x5), none, none, none, none, none, none] [] h Q := by
  unfold W_X1_value_27 at w
  refine jw_iload (pc' := 29) rfl rfl ?_
  refine jw_iload_n (pc' := 30) rfl rfl ?_
  refine jw_icmp_ge (tgt := 76) (pc' := 33) rfl rfl (fun c_1 => ?_) (fun c_1 => ?_)
  · replace w := w.1 c_1
    refine jw_aload_n (pc' := 77) rfl rfl ?_
    refine jw_aload_n (pc' := 78) rfl rfl ?_
    obtain ⟨g_2, w⟩ := w
    refine jw_getR (pc' := 81) (F := 2) (t' := 123) rfl rfl rfl rfl rfl g_2 ?_
    refine jw_aload_n (pc' := 82) rfl rfl ?_
    refine jw_getI (pc' := 85) (F := 13) rfl rfl rfl rfl g_2 ?_
    refine jw_iload_n (pc' := 86) rfl rfl ?_
    obtain ⟨g_3, w⟩ := w
    refine jw_cR (st := []) (sa := [vR 8 r1, vR 123 (jfr h 2 r0), vI (jfi h 13 r0), vI x3]) okX14_text rfl rfl rfl rfl rfl rfl (jstp_virtual (sa := [vR 123 (jfr h 2 r0), vI (jfi h 13 r0), vI x3]) (st := []) (k := 0) rfl rfl sX14_text okX14_text g_3 (one8.k g_3) rfl rfl) w (fun v_6 h_4 _ _ _ w => ?_)
    refine jw_pop (pc' := 90) rfl rfl ?_
    exact jw_return rfl rfl w
  · replace w := w.2 c_1
    refine jw_aload_n (pc' := 34) rfl rfl ?_
    obtain ⟨g_7, w⟩ := w
    refine jw_getR (pc' := 37) (F := 2) (t' := 123) rfl rfl rfl rfl rfl g_7 ?_
    refine jw_aload_n (pc' := 38) rfl rfl ?_
    refine jw_getI (pc' := 41) (F := 13) rfl rfl rfl rfl g_7 ?_
    refine jw_iload (pc' := 43) rfl rfl ?_
    refine jw_iadd (pc' := 44) rfl ?_
    obtain ⟨g_8, w⟩ := w
    obtain ⟨g_9, w⟩ := w
    refine jw_bald (pc' := 45) rfl rfl rfl rfl g_8 g_9.ix g_9.2 ?_
    refine jw_bipush (pc' := 47) (x := (32 : Int32)) rfl rfl ?_
    refine jw_icmp_lt (tgt := 67) (pc' := 50) rfl rfl (fun c_10 => ?_) (fun c_10 => ?_)
    · replace w := w.1 c_10
      refine jw_gen (ls' := [none, none, none, none, some (vR 9 r4), none, none, none, none, none, none, none]) (st' := []) (And.intro (Or.inl rfl) (trivial)) (trivial) ?_
      exact w_X1_value_67 w
    · replace w := w.2 c_10
      refine jw_aload_n (pc' := 51) rfl rfl ?_
      refine jw_getR (pc' := 54) (F := 2) (t' := 123) rfl rfl rfl rfl rfl g_7 ?_
      refine jw_aload_n (pc' := 55) rfl rfl ?_
      refine jw_getI (pc' := 58) (F := 13) rfl rfl rfl rfl g_7 ?_
      refine jw_iload (pc' := 60) rfl rfl ?_
      refine jw_iadd (pc' := 61) rfl ?_
      obtain ⟨g_11, w⟩ := w
      refine jw_bald (pc' := 62) rfl rfl rfl rfl g_8 g_11.ix g_11.2 ?_
      refine jw_bipush (pc' := 64) (x := (126 : Int32)) rfl rfl ?_
      refine jw_icmp_le (tgt := 70) (pc' := 67) rfl rfl (fun c_12 => ?_) (fun c_12 => ?_)
      · replace w := w.1 c_12
        refine jw_iinc (pc' := 73) (y := x5 + (1 : Int32)) (ls' := [some (vR 1 r0), some (vR 8 r1), none, some (vI x3), some (vR 9 r4), some (vI (x5 + (1 : Int32))), none, none, none, none, none, none]) rfl (by decide) rfl rfl rfl ?_
        refine jw_goto (pc' := 27) rfl rfl ?_
        exact hK27 _ _ _ _ _ _ w
      · replace w := w.2 c_12
        refine jw_gen (ls' := [none, none, none, none, some (vR 9 r4), none, none, none, none, none, none, none]) (st' := []) (And.intro (Or.inl rfl) (trivial)) (trivial) ?_
        exact w_X1_value_67 w
def L_X1_value_27 (D : JD) (d : Nat) (Q : JO → JH → Prop) : Nat → Nat → Nat → Int32 → Nat → Int32 → JH → Prop
  | 0 => fun _ _ _ _ _ _ => False
  | n + 1 => fun r0 r1 x3 r4 x5 h => W_X1_value_27 D d Q (L_X1_value_27 D d Q n) r0 r1 x3 r4 x5 h
theorem l_X1_value_27 {D : JD} {d : Nat} {Q : JO → JH → Prop} : ∀ (n : Nat) (r0 : Nat) (r1 : Nat) (x3 : Int32) (r4 : Nat) (x5 : Int32) (h : JH), L_X1_value_27 D d Q n r0 r1 x3 r4 x5 h → JW D (d + 1) mX1_value 27 [some (vR 1 r0), some (vR 8 r1), none, some (vI x3), some (vR 9 r4), some (vI x5), none, none, none, none, none, none] [] h Q := by
  intro n
  induction n with
  | zero => intro _ _ _ _ _ _ w; exact w.elim
  | succ n ih => intro _ _ _ _ _ h w; exact w_X1_value_27 ih w
def W_X1_value_0 (D : JD) (d : Nat) (Q : JO → JH → Prop) (r0 : Nat) (r1 : Nat) (r2 : Nat) (x3 : Int32) (h : JH) : Prop :=
  cX1_fault D d (jcs D 208) h (pR D h 9 (fun v_3 h_1 => (¬ r2 = (jcs D 346) → ∀ (r_5 : Nat) (h_6 : JH), r_5 = jsz h_1 + 1 → h_6 = nwo h_1 11 4 → (cJ13_init D d r_5 h_6 (pV D h_6 (fun h_9 => ∃ n, L_X1_value_103 D d Q n r0 r1 r2 x3 v_3 r_5 (0 : Int32) h_9) (jth Q)))) ∧ (r2 = (jcs D 346) → (x3 ≤ (40 : Int32) → ∃ n, L_X1_value_27 D d Q n r0 r1 x3 v_3 (0 : Int32) h_1) ∧ (¬ x3 ≤ (40 : Int32) → v_3 ≠ 0 ∧ (Q (.inr v_3) h_1)))) (jth Q))
theorem w_X1_value_0 {D : JD} {d : Nat} {Q : JO → JH → Prop} {r0 : Nat} {r1 : Nat} {r2 : Nat} {x3 : Int32} {h : JH} (w : W_X1_value_0 D d Q r0 r1 r2 x3 h) : JW D (d + 1) mX1_value 0 [some (vR 1 r0), some (vR 8 r1), some (vR 52 r2), some (vI x3), none, none, none, none, none, none, none, none] [] h Q := by
  unfold W_X1_value_0 at w
  refine jw_ldcwS (pc' := 3) rfl rfl rfl rfl ?_
  refine jw_cR (st := []) (sa := [vR 51 (jcs D 208)]) okX1_fault rfl rfl rfl rfl rfl rfl (jstp_static (sa := [vR 51 (jcs D 208)]) (st := []) rfl rfl sX1_fault okX1_fault rfl rfl) w (fun v_3 h_1 _ _ _ w => ?_)
  refine jw_astore (pc' := 8) (ls' := [some (vR 1 r0), some (vR 8 r1), some (vR 52 r2), some (vI x3), some (vR 9 v_3), none, none, none, none, none, none, none]) rfl (by decide) rfl ?_
  refine jw_aload_n (pc' := 9) rfl rfl ?_
  refine jw_getsR (pc' := 12) rfl rfl rfl rfl ?_
  refine jw_acmp_ne (tgt := 91) (pc' := 15) rfl rfl (fun c_4 => ?_) (fun c_4 => ?_)
  · replace w := w.1 c_4
    refine jw_new' (pc' := 94) (k := 11) (n := 4) rfl rfl rfl rfl rfl rfl rfl (fun r_5 h_6 e_7 e_8 => ?_)
    replace w := w r_5 h_6 e_7 e_8
    refine jw_dup (pc' := 95) rfl rfl ?_
    refine jw_cV (st := [vR 11 r_5]) (sa := [vR 11 r_5]) okJ13_init rfl rfl rfl rfl rfl rfl (jstp_init (sa := []) (st := [vR 11 r_5]) rfl rfl sJ13_init okJ13_init (lw_g (jtb_mem (c := 3) (i := 134) rfl) rfl) (jnz e_7) rfl rfl) w (fun h_9 _ _ w => ?_)
    refine jw_astore (pc' := 100) (ls' := [some (vR 1 r0), some (vR 8 r1), some (vR 52 r2), some (vI x3), some (vR 9 v_3), some (vR 11 r_5), none, none, none, none, none, none]) rfl (by decide) rfl ?_
    refine jw_iconst (pc' := 101) (x := (0 : Int32)) rfl rfl ?_
    refine jw_istore (pc' := 103) (ls' := [some (vR 1 r0), some (vR 8 r1), some (vR 52 r2), some (vI x3), some (vR 9 v_3), some (vR 11 r_5), some (vI (0 : Int32)), none, none, none, none, none]) rfl (by decide) rfl ?_
    obtain ⟨n, w⟩ := w
    exact l_X1_value_103 n _ _ _ _ _ _ _ _ w
  · replace w := w.2 c_4
    refine jw_iload_n (pc' := 16) rfl rfl ?_
    refine jw_bipush (pc' := 18) (x := (40 : Int32)) rfl rfl ?_
    refine jw_icmp_le (tgt := 24) (pc' := 21) rfl rfl (fun c_12 => ?_) (fun c_12 => ?_)
    · replace w := w.1 c_12
      refine jw_iconst (pc' := 25) (x := (0 : Int32)) rfl rfl ?_
      refine jw_istore (pc' := 27) (ls' := [some (vR 1 r0), some (vR 8 r1), some (vR 52 r2), some (vI x3), some (vR 9 v_3), some (vI (0 : Int32)), none, none, none, none, none, none]) rfl (by decide) rfl ?_
      refine jw_gen (ls' := [some (vR 1 r0), some (vR 8 r1), none, some (vI x3), some (vR 9 v_3), some (vI (0 : Int32)), none, none, none, none, none, none]) (st' := []) (And.intro (Or.inl rfl) (And.intro (Or.inl rfl) (And.intro (Or.inl rfl) (And.intro (Or.inl rfl) (And.intro (Or.inl rfl) (trivial)))))) (trivial) ?_
      obtain ⟨n, w⟩ := w
      exact l_X1_value_27 n _ _ _ _ _ _ w
    · replace w := w.2 c_12
      refine jw_aload (pc' := 23) rfl rfl ?_
      obtain ⟨g_13, w⟩ := w
      exact jw_athrow rfl rfl g_13 w
def T_X1_value (D : JD) (d : Nat) (Q : JO → JH → Prop) (r0 : Nat) (r1 : Nat) (r2 : Nat) (x3 : Int32) (h : JH) : Prop := W_X1_value_0 D d Q r0 r1 r2 x3 h
theorem t_X1_value {D : JD} {d : Nat} {Q : JO → JH → Prop} {r0 : Nat} {r1 : Nat} {r2 : Nat} {x3 : Int32} {h : JH} (w : T_X1_value D d Q r0 r1 r2 x3 h) : cX1_value D (d + 1) r0 r1 r2 x3 h Q := by
  unfold T_X1_value at w
  unfold cX1_value
  exact w_X1_value_0 w
def W_X1_describe_276 (D : JD) (d : Nat) (Q : JO → JH → Prop) (h : JH) : Prop :=
  Q (.inl none) h
theorem w_X1_describe_276 {D : JD} {d : Nat} {Q : JO → JH → Prop} {h : JH} (w : W_X1_describe_276 D d Q h) : JW D (d + 1) mX1_describe 276 [none, none, none, none, none, none] [] h Q := by
  unfold W_X1_describe_276 at w
  exact jw_return rfl rfl w
def W_X1_describe_248 (D : JD) (d : Nat) (Q : JO → JH → Prop) (r0 : Nat) (r3 : Nat) (x4 : Int32) (h : JH) : Prop :=
  (x4 = 0 → r0 ≠ 0 ∧ ((jfr h 4 r0) ≠ 0 ∧ (cX2_plain D d (jfr h 4 r0) (110 : Int32) h (pV D h (fun h_4 => W_X1_describe_276 D d Q h_4) (jth Q))))) ∧ (¬ x4 = 0 → r3 ≠ 0 ∧ (((jfr h 167 r3) = 0 ∨ jkd h (jfr h 167 r3) = 33) ∧ (r0 ≠ 0 ∧ (cX1_columns D d r0 (jfr h 167 r3) h (pV D h (fun h_10 => W_X1_describe_276 D d Q h_10) (jth Q))))))
theorem w_X1_describe_248 {D : JD} {d : Nat} {Q : JO → JH → Prop} {r0 : Nat} {r3 : Nat} {x4 : Int32} {h : JH} (w : W_X1_describe_248 D d Q r0 r3 x4 h) : JW D (d + 1) mX1_describe 248 [some (vR 1 r0), none, none, some (vR 36 r3), some (vI x4), none] [] h Q := by
  unfold W_X1_describe_248 at w
  refine jw_iload (pc' := 250) rfl rfl ?_
  refine jw_if_eq (tgt := 267) (pc' := 253) rfl rfl (fun c_1 => ?_) (fun c_1 => ?_)
  · replace w := w.1 c_1
    refine jw_aload_n (pc' := 268) rfl rfl ?_
    obtain ⟨g_2, w⟩ := w
    refine jw_getR (pc' := 271) (F := 4) (t' := 112) rfl rfl rfl rfl rfl g_2 ?_
    refine jw_bipush (pc' := 273) (x := (110 : Int32)) rfl rfl ?_
    obtain ⟨g_3, w⟩ := w
    refine jw_cV (st := []) (sa := [vR 112 (jfr h 4 r0), vI (110 : Int32)]) okX2_plain rfl rfl rfl rfl rfl rfl (jstp_virtual (sa := [vI (110 : Int32)]) (st := []) (k := 0) rfl rfl sX2_plain okX2_plain g_3 (one112.k g_3) rfl rfl) w (fun h_4 _ _ w => ?_)
    refine jw_gen (ls' := [none, none, none, none, none, none]) (st' := []) (trivial) (trivial) ?_
    exact w_X1_describe_276 w
  · replace w := w.2 c_1
    refine jw_aload_n (pc' := 254) rfl rfl ?_
    refine jw_aload_n (pc' := 255) rfl rfl ?_
    obtain ⟨g_7, w⟩ := w
    refine jw_getR (pc' := 258) (F := 167) (t' := 57) rfl rfl rfl rfl rfl g_7 ?_
    obtain ⟨g_8, w⟩ := w
    refine jw_cast (pc' := 261) (t2 := 33) rfl rfl rfl rfl g_8 ?_
    obtain ⟨g_9, w⟩ := w
    refine jw_cV (st := []) (sa := [vR 1 r0, vR 33 (jfr h 167 r3)]) okX1_columns rfl rfl rfl rfl rfl rfl (jstp_virtual (sa := [vR 33 (jfr h 167 r3)]) (st := []) (k := 0) rfl rfl sX1_columns okX1_columns g_9 (one1.k g_9) rfl rfl) w (fun h_10 _ _ w => ?_)
    refine jw_goto (pc' := 276) rfl rfl ?_
    refine jw_gen (ls' := [none, none, none, none, none, none]) (st' := []) (trivial) (trivial) ?_
    exact w_X1_describe_276 w
def W_X1_describe_206 (D : JD) (d : Nat) (Q : JO → JH → Prop) (K206 : Nat → Nat → Int32 → Int32 → JH → Prop) (r0 : Nat) (r3 : Nat) (x4 : Int32) (x5 : Int32) (h : JH) : Prop :=
  r3 ≠ 0 ∧ ((jfr h 168 r3) ≠ 0 ∧ (((nI (jln h (jfr h 168 r3))) ≤ x5 → r0 ≠ 0 ∧ ((jfr h 4 r0) ≠ 0 ∧ (cX2_close D d (jfr h 4 r0) h (pV D h (fun h_6 => W_X1_describe_248 D d Q r0 r3 x4 h_6) (jth Q))))) ∧ (¬ (nI (jln h (jfr h 168 r3))) ≤ x5 → r0 ≠ 0 ∧ (jin x5 (jln h (jfr h 168 r3)) ∧ ((jar h (jfr h 168 r3) (ixn x5)) ≠ 0 ∧ (cX15_number D d (jar h (jfr h 168 r3) (ixn x5)) h (pI D h (fun v_14 h_12 => (jfr h 4 r0) ≠ 0 ∧ (cX2_number D d (jfr h 4 r0) (Int32.toInt64 v_14) (4 : Int32) h_12 (pV D h_12 (fun h_16 => K206 r0 r3 x4 (x5 + (1 : Int32)) h_16) (jth Q)))) (jth Q))))))))
theorem w_X1_describe_206 {D : JD} {d : Nat} {Q : JO → JH → Prop} {K206 : Nat → Nat → Int32 → Int32 → JH → Prop} {r0 : Nat} {r3 : Nat} {x4 : Int32} {x5 : Int32} {h : JH} (hK206 : ∀ (r0 : Nat) (r3 : Nat) (x4 : Int32) (x5 : Int32) (h : JH), K206 r0 r3 x4 x5 h → JW D (d + 1) mX1_describe 206 [some (vR 1 r0), none, none, some (vR 36 r3), some (vI x4), some (vI x5)] [] h Q) (w : W_X1_describe_206 D d Q K206 r0 r3 x4 x5 h) : JW D (d + 1) mX1_describe 206 [some (vR 1 r0), none, none, some (vR 36 r3), some (vI x4), some (vI x5)] [] h Q := by
  unfold W_X1_describe_206 at w
  refine jw_iload (pc' := 208) rfl rfl ?_
  refine jw_aload_n (pc' := 209) rfl rfl ?_
  obtain ⟨g_1, w⟩ := w
  refine jw_getR (pc' := 212) (F := 168) (t' := 161) rfl rfl rfl rfl rfl g_1 ?_
  obtain ⟨g_2, w⟩ := w
  refine jw_alen (pc' := 213) rfl rfl g_2 ?_
  refine jw_icmp_ge (tgt := 241) (pc' := 216) rfl rfl (fun c_3 => ?_) (fun c_3 => ?_)
  · replace w := w.1 c_3
    refine jw_aload_n (pc' := 242) rfl rfl ?_
    obtain ⟨g_4, w⟩ := w
    refine jw_getR (pc' := 245) (F := 4) (t' := 112) rfl rfl rfl rfl rfl g_4 ?_
    obtain ⟨g_5, w⟩ := w
    refine jw_cV (st := []) (sa := [vR 112 (jfr h 4 r0)]) okX2_close rfl rfl rfl rfl rfl rfl (jstp_virtual (sa := []) (st := []) (k := 0) rfl rfl sX2_close okX2_close g_5 (one112.k g_5) rfl rfl) w (fun h_6 _ _ w => ?_)
    refine jw_gen (ls' := [some (vR 1 r0), none, none, some (vR 36 r3), some (vI x4), none]) (st' := []) (And.intro (Or.inl rfl) (And.intro (Or.inl rfl) (And.intro (Or.inl rfl) (trivial)))) (trivial) ?_
    exact w_X1_describe_248 w
  · replace w := w.2 c_3
    refine jw_aload_n (pc' := 217) rfl rfl ?_
    obtain ⟨g_9, w⟩ := w
    refine jw_getR (pc' := 220) (F := 4) (t' := 112) rfl rfl rfl rfl rfl g_9 ?_
    refine jw_aload_n (pc' := 221) rfl rfl ?_
    refine jw_getR (pc' := 224) (F := 168) (t' := 161) rfl rfl rfl rfl rfl g_1 ?_
    refine jw_iload (pc' := 226) rfl rfl ?_
    obtain ⟨g_10, w⟩ := w
    refine jw_aald (pc' := 227) (t' := 52) rfl rfl rfl rfl g_2 g_10.ix g_10.2 ?_
    obtain ⟨g_11, w⟩ := w
    refine jw_cI (st := [vR 112 (jfr h 4 r0)]) (sa := [vR 52 (jar h (jfr h 168 r3) (ixn x5))]) okX15_number rfl rfl rfl rfl rfl rfl (jstp_virtual (sa := []) (st := [vR 112 (jfr h 4 r0)]) (k := 0) rfl rfl sX15_number okX15_number g_11 (one52.k g_11) rfl rfl) w (fun v_14 h_12 _ _ w => ?_)
    refine jw_i2l (pc' := 231) rfl ?_
    refine jw_iconst (pc' := 232) (x := (4 : Int32)) rfl rfl ?_
    obtain ⟨g_15, w⟩ := w
    refine jw_cV (st := []) (sa := [vR 112 (jfr h 4 r0), vL (Int32.toInt64 v_14), vI (4 : Int32)]) okX2_number rfl rfl rfl rfl rfl rfl (jstp_virtual (sa := [vL (Int32.toInt64 v_14), vI (4 : Int32)]) (st := []) (k := 0) rfl rfl sX2_number okX2_number g_15 (one112.k g_15) rfl rfl) w (fun h_16 _ _ w => ?_)
    refine jw_iinc (pc' := 238) (y := x5 + (1 : Int32)) (ls' := [some (vR 1 r0), none, none, some (vR 36 r3), some (vI x4), some (vI (x5 + (1 : Int32)))]) rfl (by decide) rfl rfl rfl ?_
    refine jw_goto (pc' := 206) rfl rfl ?_
    exact hK206 _ _ _ _ _ w
def L_X1_describe_206 (D : JD) (d : Nat) (Q : JO → JH → Prop) : Nat → Nat → Nat → Int32 → Int32 → JH → Prop
  | 0 => fun _ _ _ _ _ => False
  | n + 1 => fun r0 r3 x4 x5 h => W_X1_describe_206 D d Q (L_X1_describe_206 D d Q n) r0 r3 x4 x5 h
theorem l_X1_describe_206 {D : JD} {d : Nat} {Q : JO → JH → Prop} : ∀ (n : Nat) (r0 : Nat) (r3 : Nat) (x4 : Int32) (x5 : Int32) (h : JH), L_X1_describe_206 D d Q n r0 r3 x4 x5 h → JW D (d + 1) mX1_describe 206 [some (vR 1 r0), none, none, some (vR 36 r3), some (vI x4), some (vI x5)] [] h Q := by
  intro n
  induction n with
  | zero => intro _ _ _ _ _ w; exact w.elim
  | succ n ih => intro _ _ _ _ h w; exact w_X1_describe_206 ih w
def W_X1_describe_178 (D : JD) (d : Nat) (Q : JO → JH → Prop) (r0 : Nat) (x1 : Int32) (r3 : Nat) (x4 : Int32) (h : JH) : Prop :=
  (¬ x1 = (83 : Int32) → W_X1_describe_248 D d Q r0 r3 x4 h) ∧ (x1 = (83 : Int32) → r0 ≠ 0 ∧ ((jfr h 4 r0) ≠ 0 ∧ (cX2_open D d (jfr h 4 r0) (116 : Int32) h (pR D h 2 (fun v_6 h_4 => r3 ≠ 0 ∧ ((jfr h_4 168 r3) ≠ 0 ∧ (v_6 ≠ 0 ∧ (cX2_number D d v_6 (Int32.toInt64 (nI (jln h_4 (jfr h_4 168 r3)))) (2 : Int32) h_4 (pV D h_4 (fun h_10 => ∃ n, L_X1_describe_206 D d Q n r0 r3 x4 (0 : Int32) h_10) (jth Q)))))) (jth Q)))))
theorem w_X1_describe_178 {D : JD} {d : Nat} {Q : JO → JH → Prop} {r0 : Nat} {x1 : Int32} {r3 : Nat} {x4 : Int32} {h : JH} (w : W_X1_describe_178 D d Q r0 x1 r3 x4 h) : JW D (d + 1) mX1_describe 178 [some (vR 1 r0), some (vI x1), none, some (vR 36 r3), some (vI x4), none] [] h Q := by
  unfold W_X1_describe_178 at w
  refine jw_iload_n (pc' := 179) rfl rfl ?_
  refine jw_bipush (pc' := 181) (x := (83 : Int32)) rfl rfl ?_
  refine jw_icmp_ne (tgt := 248) (pc' := 184) rfl rfl (fun c_1 => ?_) (fun c_1 => ?_)
  · replace w := w.1 c_1
    refine jw_gen (ls' := [some (vR 1 r0), none, none, some (vR 36 r3), some (vI x4), none]) (st' := []) (And.intro (Or.inl rfl) (And.intro (Or.inl rfl) (And.intro (Or.inl rfl) (trivial)))) (trivial) ?_
    exact w_X1_describe_248 w
  · replace w := w.2 c_1
    refine jw_aload_n (pc' := 185) rfl rfl ?_
    obtain ⟨g_2, w⟩ := w
    refine jw_getR (pc' := 188) (F := 4) (t' := 112) rfl rfl rfl rfl rfl g_2 ?_
    refine jw_bipush (pc' := 190) (x := (116 : Int32)) rfl rfl ?_
    obtain ⟨g_3, w⟩ := w
    refine jw_cR (st := []) (sa := [vR 112 (jfr h 4 r0), vI (116 : Int32)]) okX2_open rfl rfl rfl rfl rfl rfl (jstp_virtual (sa := [vI (116 : Int32)]) (st := []) (k := 0) rfl rfl sX2_open okX2_open g_3 (one112.k g_3) rfl rfl) w (fun v_6 h_4 _ _ _ w => ?_)
    refine jw_aload_n (pc' := 194) rfl rfl ?_
    obtain ⟨g_7, w⟩ := w
    refine jw_getR (pc' := 197) (F := 168) (t' := 161) rfl rfl rfl rfl rfl g_7 ?_
    obtain ⟨g_8, w⟩ := w
    refine jw_alen (pc' := 198) rfl rfl g_8 ?_
    refine jw_i2l (pc' := 199) rfl ?_
    refine jw_iconst (pc' := 200) (x := (2 : Int32)) rfl rfl ?_
    obtain ⟨g_9, w⟩ := w
    refine jw_cV (st := []) (sa := [vR 2 v_6, vL (Int32.toInt64 (nI (jln h_4 (jfr h_4 168 r3)))), vI (2 : Int32)]) okX2_number rfl rfl rfl rfl rfl rfl (jstp_virtual (sa := [vL (Int32.toInt64 (nI (jln h_4 (jfr h_4 168 r3)))), vI (2 : Int32)]) (st := []) (k := 0) rfl rfl sX2_number okX2_number g_9 (one2.k g_9) rfl rfl) w (fun h_10 _ _ w => ?_)
    refine jw_iconst (pc' := 204) (x := (0 : Int32)) rfl rfl ?_
    refine jw_istore (pc' := 206) (ls' := [some (vR 1 r0), some (vI x1), none, some (vR 36 r3), some (vI x4), some (vI (0 : Int32))]) rfl (by decide) rfl ?_
    refine jw_gen (ls' := [some (vR 1 r0), none, none, some (vR 36 r3), some (vI x4), some (vI (0 : Int32))]) (st' := []) (And.intro (Or.inl rfl) (And.intro (Or.inl rfl) (And.intro (Or.inl rfl) (And.intro (Or.inl rfl) (trivial))))) (trivial) ?_
    obtain ⟨n, w⟩ := w
    exact l_X1_describe_206 n _ _ _ _ _ w
def W_X1_describe_149 (D : JD) (d : Nat) (Q : JO → JH → Prop) (r0 : Nat) (x1 : Int32) (r3 : Nat) (s0 : Int32) (h : JH) : Prop :=
  (s0 = 0 → W_X1_describe_178 D d Q r0 x1 r3 s0 h) ∧ (¬ s0 = 0 → r0 ≠ 0 ∧ (r3 ≠ 0 ∧ ((jfr h 7 r0) ≠ 0 ∧ (cX3_check D d (jfr h 7 r0) (jfr h 167 r3) (jfr h 168 r3) (jfr h 38 (jfr h 7 r0)) h (pV D h (fun h_5 => W_X1_describe_178 D d Q r0 x1 r3 s0 h_5) (jth Q))))))
theorem w_X1_describe_149 {D : JD} {d : Nat} {Q : JO → JH → Prop} {r0 : Nat} {x1 : Int32} {r3 : Nat} {s0 : Int32} {h : JH} (w : W_X1_describe_149 D d Q r0 x1 r3 s0 h) : JW D (d + 1) mX1_describe 149 [some (vR 1 r0), some (vI x1), none, some (vR 36 r3), none, none] [vI s0] h Q := by
  unfold W_X1_describe_149 at w
  refine jw_istore (pc' := 151) (ls' := [some (vR 1 r0), some (vI x1), none, some (vR 36 r3), some (vI s0), none]) rfl (by decide) rfl ?_
  refine jw_iload (pc' := 153) rfl rfl ?_
  refine jw_if_eq (tgt := 178) (pc' := 156) rfl rfl (fun c_1 => ?_) (fun c_1 => ?_)
  · replace w := w.1 c_1
    exact w_X1_describe_178 w
  · replace w := w.2 c_1
    refine jw_aload_n (pc' := 157) rfl rfl ?_
    obtain ⟨g_2, w⟩ := w
    refine jw_getR (pc' := 160) (F := 7) (t' := 3) rfl rfl rfl rfl rfl g_2 ?_
    refine jw_aload_n (pc' := 161) rfl rfl ?_
    obtain ⟨g_3, w⟩ := w
    refine jw_getR (pc' := 164) (F := 167) (t' := 57) rfl rfl rfl rfl rfl g_3 ?_
    refine jw_aload_n (pc' := 165) rfl rfl ?_
    refine jw_getR (pc' := 168) (F := 168) (t' := 161) rfl rfl rfl rfl rfl g_3 ?_
    refine jw_aload_n (pc' := 169) rfl rfl ?_
    refine jw_getR (pc' := 172) (F := 7) (t' := 3) rfl rfl rfl rfl rfl g_2 ?_
    obtain ⟨g_4, w⟩ := w
    refine jw_getR (pc' := 175) (F := 38) (t' := 137) rfl rfl rfl rfl rfl g_4 ?_
    refine jw_cV (st := []) (sa := [vR 3 (jfr h 7 r0), vR 57 (jfr h 167 r3), vR 161 (jfr h 168 r3), vR 137 (jfr h 38 (jfr h 7 r0))]) okX3_check rfl rfl rfl rfl rfl rfl (jstp_virtual (sa := [vR 57 (jfr h 167 r3), vR 161 (jfr h 168 r3), vR 137 (jfr h 38 (jfr h 7 r0))]) (st := []) (k := 0) rfl rfl sX3_check okX3_check g_4 (one3.k g_4) rfl rfl) w (fun h_5 _ _ w => ?_)
    exact w_X1_describe_178 w
def W_X1_describe_148 (D : JD) (d : Nat) (Q : JO → JH → Prop) (r0 : Nat) (x1 : Int32) (r3 : Nat) (h : JH) : Prop :=
  W_X1_describe_149 D d Q r0 x1 r3 (0 : Int32) h
theorem w_X1_describe_148 {D : JD} {d : Nat} {Q : JO → JH → Prop} {r0 : Nat} {x1 : Int32} {r3 : Nat} {h : JH} (w : W_X1_describe_148 D d Q r0 x1 r3 h) : JW D (d + 1) mX1_describe 148 [some (vR 1 r0), some (vI x1), none, some (vR 36 r3), none, none] [] h Q := by
  unfold W_X1_describe_148 at w
  refine jw_iconst (pc' := 149) (x := (0 : Int32)) rfl rfl ?_
  exact w_X1_describe_149 w
def W_X1_describe_141 (D : JD) (d : Nat) (Q : JO → JH → Prop) (r0 : Nat) (x1 : Int32) (r3 : Nat) (s0 : Int32) (h : JH) : Prop :=
  (s0 = 0 → W_X1_describe_148 D d Q r0 x1 r3 h) ∧ (¬ s0 = 0 → W_X1_describe_149 D d Q r0 x1 r3 (1 : Int32) h)
theorem w_X1_describe_141 {D : JD} {d : Nat} {Q : JO → JH → Prop} {r0 : Nat} {x1 : Int32} {r3 : Nat} {s0 : Int32} {h : JH} (w : W_X1_describe_141 D d Q r0 x1 r3 s0 h) : JW D (d + 1) mX1_describe 141 [some (vR 1 r0), some (vI x1), none, some (vR 36 r3), none, none] [vI s0] h Q := by
  unfold W_X1_describe_141 at w
  refine jw_if_eq (tgt := 148) (pc' := 144) rfl rfl (fun c_1 => ?_) (fun c_1 => ?_)
  · replace w := w.1 c_1
    exact w_X1_describe_148 w
  · replace w := w.2 c_1
    refine jw_iconst (pc' := 145) (x := (1 : Int32)) rfl rfl ?_
    refine jw_goto (pc' := 149) rfl rfl ?_
    exact w_X1_describe_149 w
def W_X1_describe_127 (D : JD) (d : Nat) (Q : JO → JH → Prop) (r0 : Nat) (x1 : Int32) (r3 : Nat) (h : JH) : Prop :=
  r3 ≠ 0 ∧ (((jfr h 167 r3) = 0 → W_X1_describe_148 D d Q r0 x1 r3 h) ∧ ((jfr h 167 r3) ≠ 0 → v57_selects D d (jfr h 167 r3) h (pI D h (fun v_5 h_3 => W_X1_describe_141 D d Q r0 x1 r3 v_5 h_3) (jth Q))))
theorem w_X1_describe_127 {D : JD} {d : Nat} {Q : JO → JH → Prop} {r0 : Nat} {x1 : Int32} {r3 : Nat} {h : JH} (w : W_X1_describe_127 D d Q r0 x1 r3 h) : JW D (d + 1) mX1_describe 127 [some (vR 1 r0), some (vI x1), none, some (vR 36 r3), none, none] [] h Q := by
  unfold W_X1_describe_127 at w
  refine jw_aload_n (pc' := 128) rfl rfl ?_
  obtain ⟨g_1, w⟩ := w
  refine jw_getR (pc' := 131) (F := 167) (t' := 57) rfl rfl rfl rfl rfl g_1 ?_
  refine jw_ifnull (tgt := 148) (pc' := 134) rfl rfl (fun c_2 => ?_) (fun c_2 => ?_)
  · replace w := w.1 c_2
    exact w_X1_describe_148 w
  · replace w := w.2 c_2
    refine jw_aload_n (pc' := 135) rfl rfl ?_
    refine jw_getR (pc' := 138) (F := 167) (t' := 57) rfl rfl rfl rfl rfl g_1 ?_
    refine JW.inv (fun hI => JW.oks (fun ho => ?_))
    have hkd := und57.k hI (ho (vR 57 (jfr h 167 r3)) (by simp)) c_2
    simp only [List.mem_cons, List.not_mem_nil, or_false] at hkd
    clear ho hI
    rcases hkd with e_6 | e_6 | e_6 | e_6 | e_6 | e_6 | e_6
    · refine jw_cI (st := []) (sa := [vR 57 (jfr h 167 r3)]) okX20_selects rfl rfl rfl rfl rfl rfl (jstp_up (sa := []) (st := []) rfl (lw_g (jtb_mem (c := 13) (i := 108) rfl) rfl) um3 okX20_selects c_2 (fun _ _ => by rw [e_6]; exact ⟨rfl, rfl⟩) rfl rfl) (w.1 e_6) (fun v_5 h_3 _ _ w => ?_)
      exact w_X1_describe_141 w
    · refine jw_cI (st := []) (sa := [vR 57 (jfr h 167 r3)]) okX20_selects rfl rfl rfl rfl rfl rfl (jstp_up (sa := []) (st := []) rfl (lw_g (jtb_mem (c := 13) (i := 108) rfl) rfl) um4 okX20_selects c_2 (fun _ _ => by rw [e_6]; exact ⟨rfl, rfl⟩) rfl rfl) (w.2.1 e_6) (fun v_5 h_3 _ _ w => ?_)
      exact w_X1_describe_141 w
    · refine jw_cI (st := []) (sa := [vR 57 (jfr h 167 r3)]) okX20_selects rfl rfl rfl rfl rfl rfl (jstp_up (sa := []) (st := []) rfl (lw_g (jtb_mem (c := 13) (i := 108) rfl) rfl) um5 okX20_selects c_2 (fun _ _ => by rw [e_6]; exact ⟨rfl, rfl⟩) rfl rfl) (w.2.2.1 e_6) (fun v_5 h_3 _ _ w => ?_)
      exact w_X1_describe_141 w
    · refine jw_cI (st := []) (sa := [vR 57 (jfr h 167 r3)]) okX20_selects rfl rfl rfl rfl rfl rfl (jstp_up (sa := []) (st := []) rfl (lw_g (jtb_mem (c := 13) (i := 108) rfl) rfl) um6 okX20_selects c_2 (fun _ _ => by rw [e_6]; exact ⟨rfl, rfl⟩) rfl rfl) (w.2.2.2.1 e_6) (fun v_5 h_3 _ _ w => ?_)
      exact w_X1_describe_141 w
    · refine jw_cI (st := []) (sa := [vR 57 (jfr h 167 r3)]) okX20_selects rfl rfl rfl rfl rfl rfl (jstp_up (sa := []) (st := []) rfl (lw_g (jtb_mem (c := 13) (i := 108) rfl) rfl) um7 okX20_selects c_2 (fun _ _ => by rw [e_6]; exact ⟨rfl, rfl⟩) rfl rfl) (w.2.2.2.2.1 e_6) (fun v_5 h_3 _ _ w => ?_)
      exact w_X1_describe_141 w
    · refine jw_gen (ls' := _) (st' := [vR 33 (jfr h 167 r3)]) (jgl_rf _ _) (And.intro (Or.inr ⟨_, _, _, rfl, rfl, Or.inr (Or.inr (by rw [e_6]; rfl))⟩) (jgs_rf _ _)) ?_
      refine jw_cI (st := []) (sa := [vR 33 (jfr h 167 r3)]) okX40_selects rfl rfl rfl rfl rfl rfl (jstp_up (sa := []) (st := []) rfl (lw_g (jtb_mem (c := 13) (i := 108) rfl) rfl) um8 okX40_selects c_2 (fun _ _ => by rw [e_6]; exact ⟨rfl, rfl⟩) rfl rfl) (w.2.2.2.2.2.1 e_6) (fun v_5 h_3 _ _ w => ?_)
      exact w_X1_describe_141 w
    · refine jw_cI (st := []) (sa := [vR 57 (jfr h 167 r3)]) okX20_selects rfl rfl rfl rfl rfl rfl (jstp_up (sa := []) (st := []) rfl (lw_g (jtb_mem (c := 13) (i := 108) rfl) rfl) um9 okX20_selects c_2 (fun _ _ => by rw [e_6]; exact ⟨rfl, rfl⟩) rfl rfl) (w.2.2.2.2.2.2 e_6) (fun v_5 h_3 _ _ w => ?_)
      exact w_X1_describe_141 w
def W_X1_describe_42 (D : JD) (d : Nat) (Q : JO → JH → Prop) (r0 : Nat) (x1 : Int32) (h : JH) : Prop :=
  r0 ≠ 0 ∧ (∀ h_2 : JH, h_2 = wfi h 13 r0 ((jfi h 13 r0) + (1 : Int32)) → (cX1_string D d r0 h_2 (pR D h_2 64 (fun v_6 h_4 => cX1_all D d r0 h_4 (pV D h_4 (fun h_7 => (¬ x1 = (83 : Int32) → cX1_portal D d r0 v_6 h_7 (pI D h_7 (fun v_13 h_11 => (0 ≤ v_13 → (jfr h_11 10 r0) ≠ 0 ∧ jin v_13 (jln h_11 (jfr h_11 10 r0)) ∧ ((jar h_11 (jfr h_11 10 r0) (ixn v_13)) ≠ 0 ∧ (W_X1_describe_127 D d Q r0 x1 (jfr h_11 170 (jar h_11 (jfr h_11 10 r0) (ixn v_13))) h_11))) ∧ (¬ 0 ≤ v_13 → cX1_fault D d (jcs D 214) h_11 (pR D h_11 9 (fun v_20 h_18 => v_20 ≠ 0 ∧ (Q (.inr v_20) h_18)) (jth Q)))) (jth Q))) ∧ (x1 = (83 : Int32) → cX1_statement D d r0 v_6 h_7 (pI D h_7 (fun v_24 h_22 => (0 ≤ v_24 → (jfr h_22 8 r0) ≠ 0 ∧ jin v_24 (jln h_22 (jfr h_22 8 r0)) ∧ (W_X1_describe_127 D d Q r0 x1 (jar h_22 (jfr h_22 8 r0) (ixn v_24)) h_22)) ∧ (¬ 0 ≤ v_24 → cX1_fault D d (jcs D 206) h_22 (pR D h_22 9 (fun v_30 h_28 => v_30 ≠ 0 ∧ (Q (.inr v_30) h_28)) (jth Q)))) (jth Q)))) (jth Q))) (jth Q))))
theorem w_X1_describe_42 {D : JD} {d : Nat} {Q : JO → JH → Prop} {r0 : Nat} {x1 : Int32} {h : JH} (w : W_X1_describe_42 D d Q r0 x1 h) : JW D (d + 1) mX1_describe 42 [some (vR 1 r0), some (vI x1), none, none, none, none] [] h Q := by
  unfold W_X1_describe_42 at w
  refine jw_aload_n (pc' := 43) rfl rfl ?_
  refine jw_dup (pc' := 44) rfl rfl ?_
  obtain ⟨g_1, w⟩ := w
  refine jw_getI (pc' := 47) (F := 13) rfl rfl rfl rfl g_1 ?_
  refine jw_iconst (pc' := 48) (x := (1 : Int32)) rfl rfl ?_
  refine jw_iadd (pc' := 49) rfl ?_
  refine jw_putI' (pc' := 52) (F := 13) rfl rfl rfl (Or.inr rfl) (Or.inl rfl) rfl (rfl) (rfl) rfl g_1 (fun h_2 e_3 => ?_)
  replace w := w h_2 e_3
  refine jw_aload_n (pc' := 53) rfl rfl ?_
  refine jw_cR (st := []) (sa := [vR 1 r0]) okX1_string rfl rfl rfl rfl rfl rfl (jstp_virtual (sa := []) (st := []) (k := 0) rfl rfl sX1_string okX1_string g_1 (one1.k g_1) rfl rfl) w (fun v_6 h_4 _ _ _ w => ?_)
  refine jw_astore_n (pc' := 57) (ls' := [some (vR 1 r0), some (vI x1), some (vR 64 v_6), none, none, none]) rfl (by decide) rfl ?_
  refine jw_aload_n (pc' := 58) rfl rfl ?_
  refine jw_cV (st := []) (sa := [vR 1 r0]) okX1_all rfl rfl rfl rfl rfl rfl (jstp_virtual (sa := []) (st := []) (k := 0) rfl rfl sX1_all okX1_all g_1 (one1.k g_1) rfl rfl) w (fun h_7 _ _ w => ?_)
  refine jw_iload_n (pc' := 62) rfl rfl ?_
  refine jw_bipush (pc' := 64) (x := (83 : Int32)) rfl rfl ?_
  refine jw_icmp_ne (tgt := 97) (pc' := 67) rfl rfl (fun c_10 => ?_) (fun c_10 => ?_)
  · replace w := w.1 c_10
    refine jw_aload_n (pc' := 98) rfl rfl ?_
    refine jw_aload_n (pc' := 99) rfl rfl ?_
    refine jw_cI (st := []) (sa := [vR 1 r0, vR 64 v_6]) okX1_portal rfl rfl rfl rfl rfl rfl (jstp_virtual (sa := [vR 64 v_6]) (st := []) (k := 0) rfl rfl sX1_portal okX1_portal g_1 (one1.k g_1) rfl rfl) w (fun v_13 h_11 _ _ w => ?_)
    refine jw_istore (pc' := 104) (ls' := [some (vR 1 r0), some (vI x1), some (vR 64 v_6), none, some (vI v_13), none]) rfl (by decide) rfl ?_
    refine jw_iload (pc' := 106) rfl rfl ?_
    refine jw_if_ge (tgt := 116) (pc' := 109) rfl rfl (fun c_14 => ?_) (fun c_14 => ?_)
    · replace w := w.1 c_14
      refine jw_aload_n (pc' := 117) rfl rfl ?_
      refine jw_getR (pc' := 120) (F := 10) (t' := 125) rfl rfl rfl rfl rfl g_1 ?_
      refine jw_iload (pc' := 122) rfl rfl ?_
      obtain ⟨g_15, w⟩ := w
      obtain ⟨g_16, w⟩ := w
      refine jw_aald (pc' := 123) (t' := 37) rfl rfl rfl rfl g_15 g_16.ix g_16.2 ?_
      obtain ⟨g_17, w⟩ := w
      refine jw_getR (pc' := 126) (F := 170) (t' := 36) rfl rfl rfl rfl rfl g_17 ?_
      refine jw_astore_n (pc' := 127) (ls' := [some (vR 1 r0), some (vI x1), some (vR 64 v_6), some (vR 36 (jfr h_11 170 (jar h_11 (jfr h_11 10 r0) (ixn v_13)))), some (vI v_13), none]) rfl (by decide) rfl ?_
      refine jw_gen (ls' := [some (vR 1 r0), some (vI x1), none, some (vR 36 (jfr h_11 170 (jar h_11 (jfr h_11 10 r0) (ixn v_13)))), none, none]) (st' := []) (And.intro (Or.inl rfl) (And.intro (Or.inl rfl) (And.intro (Or.inl rfl) (trivial)))) (trivial) ?_
      exact w_X1_describe_127 w
    · replace w := w.2 c_14
      refine jw_ldcwS (pc' := 112) rfl rfl rfl rfl ?_
      refine jw_cR (st := []) (sa := [vR 51 (jcs D 214)]) okX1_fault rfl rfl rfl rfl rfl rfl (jstp_static (sa := [vR 51 (jcs D 214)]) (st := []) rfl rfl sX1_fault okX1_fault rfl rfl) w (fun v_20 h_18 _ _ _ w => ?_)
      obtain ⟨g_21, w⟩ := w
      exact jw_athrow rfl rfl g_21 w
  · replace w := w.2 c_10
    refine jw_aload_n (pc' := 68) rfl rfl ?_
    refine jw_aload_n (pc' := 69) rfl rfl ?_
    refine jw_cI (st := []) (sa := [vR 1 r0, vR 64 v_6]) okX1_statement rfl rfl rfl rfl rfl rfl (jstp_virtual (sa := [vR 64 v_6]) (st := []) (k := 0) rfl rfl sX1_statement okX1_statement g_1 (one1.k g_1) rfl rfl) w (fun v_24 h_22 _ _ w => ?_)
    refine jw_istore (pc' := 74) (ls' := [some (vR 1 r0), some (vI x1), some (vR 64 v_6), none, some (vI v_24), none]) rfl (by decide) rfl ?_
    refine jw_iload (pc' := 76) rfl rfl ?_
    refine jw_if_ge (tgt := 86) (pc' := 79) rfl rfl (fun c_25 => ?_) (fun c_25 => ?_)
    · replace w := w.1 c_25
      refine jw_aload_n (pc' := 87) rfl rfl ?_
      refine jw_getR (pc' := 90) (F := 8) (t' := 124) rfl rfl rfl rfl rfl g_1 ?_
      refine jw_iload (pc' := 92) rfl rfl ?_
      obtain ⟨g_26, w⟩ := w
      obtain ⟨g_27, w⟩ := w
      refine jw_aald (pc' := 93) (t' := 36) rfl rfl rfl rfl g_26 g_27.ix g_27.2 ?_
      refine jw_astore_n (pc' := 94) (ls' := [some (vR 1 r0), some (vI x1), some (vR 64 v_6), some (vR 36 (jar h_22 (jfr h_22 8 r0) (ixn v_24))), some (vI v_24), none]) rfl (by decide) rfl ?_
      refine jw_goto (pc' := 127) rfl rfl ?_
      refine jw_gen (ls' := [some (vR 1 r0), some (vI x1), none, some (vR 36 (jar h_22 (jfr h_22 8 r0) (ixn v_24))), none, none]) (st' := []) (And.intro (Or.inl rfl) (And.intro (Or.inl rfl) (And.intro (Or.inl rfl) (trivial)))) (trivial) ?_
      exact w_X1_describe_127 w
    · replace w := w.2 c_25
      refine jw_ldcwS (pc' := 82) rfl rfl rfl rfl ?_
      refine jw_cR (st := []) (sa := [vR 51 (jcs D 206)]) okX1_fault rfl rfl rfl rfl rfl rfl (jstp_static (sa := [vR 51 (jcs D 206)]) (st := []) rfl rfl sX1_fault okX1_fault rfl rfl) w (fun v_30 h_28 _ _ _ w => ?_)
      obtain ⟨g_31, w⟩ := w
      exact jw_athrow rfl rfl g_31 w
def W_X1_describe_24 (D : JD) (d : Nat) (Q : JO → JH → Prop) (r0 : Nat) (s0 : Int32) (h : JH) : Prop :=
  (s0 = (83 : Int32) → W_X1_describe_42 D d Q r0 s0 h) ∧ (¬ s0 = (83 : Int32) → (s0 = (80 : Int32) → W_X1_describe_42 D d Q r0 s0 h) ∧ (¬ s0 = (80 : Int32) → r0 ≠ 0 ∧ (cX1_protocol D d r0 h (pR D h 9 (fun v_6 h_4 => v_6 ≠ 0 ∧ (Q (.inr v_6) h_4)) (jth Q)))))
theorem w_X1_describe_24 {D : JD} {d : Nat} {Q : JO → JH → Prop} {r0 : Nat} {s0 : Int32} {h : JH} (w : W_X1_describe_24 D d Q r0 s0 h) : JW D (d + 1) mX1_describe 24 [some (vR 1 r0), none, none, none, none, none] [vI s0] h Q := by
  unfold W_X1_describe_24 at w
  refine jw_istore_n (pc' := 25) (ls' := [some (vR 1 r0), some (vI s0), none, none, none, none]) rfl (by decide) rfl ?_
  refine jw_iload_n (pc' := 26) rfl rfl ?_
  refine jw_bipush (pc' := 28) (x := (83 : Int32)) rfl rfl ?_
  refine jw_icmp_eq (tgt := 42) (pc' := 31) rfl rfl (fun c_1 => ?_) (fun c_1 => ?_)
  · replace w := w.1 c_1
    exact w_X1_describe_42 w
  · replace w := w.2 c_1
    refine jw_iload_n (pc' := 32) rfl rfl ?_
    refine jw_bipush (pc' := 34) (x := (80 : Int32)) rfl rfl ?_
    refine jw_icmp_eq (tgt := 42) (pc' := 37) rfl rfl (fun c_2 => ?_) (fun c_2 => ?_)
    · replace w := w.1 c_2
      exact w_X1_describe_42 w
    · replace w := w.2 c_2
      refine jw_aload_n (pc' := 38) rfl rfl ?_
      obtain ⟨g_3, w⟩ := w
      refine jw_cR (st := []) (sa := [vR 1 r0]) okX1_protocol rfl rfl rfl rfl rfl rfl (jstp_virtual (sa := []) (st := []) (k := 0) rfl rfl sX1_protocol okX1_protocol g_3 (one1.k g_3) rfl rfl) w (fun v_6 h_4 _ _ _ w => ?_)
      obtain ⟨g_7, w⟩ := w
      exact jw_athrow rfl rfl g_7 w
def W_X1_describe_0 (D : JD) (d : Nat) (Q : JO → JH → Prop) (r0 : Nat) (h : JH) : Prop :=
  r0 ≠ 0 ∧ (((jfi h 14 r0) ≤ (jfi h 13 r0) → W_X1_describe_24 D d Q r0 (0 : Int32) h) ∧ (¬ (jfi h 14 r0) ≤ (jfi h 13 r0) → (jfr h 2 r0) ≠ 0 ∧ jin (jfi h 13 r0) (jln h (jfr h 2 r0)) ∧ (W_X1_describe_24 D d Q r0 (jai h (jfr h 2 r0) (ixn (jfi h 13 r0))) h)))
theorem w_X1_describe_0 {D : JD} {d : Nat} {Q : JO → JH → Prop} {r0 : Nat} {h : JH} (w : W_X1_describe_0 D d Q r0 h) : JW D (d + 1) mX1_describe 0 [some (vR 1 r0), none, none, none, none, none] [] h Q := by
  unfold W_X1_describe_0 at w
  refine jw_aload_n (pc' := 1) rfl rfl ?_
  obtain ⟨g_1, w⟩ := w
  refine jw_getI (pc' := 4) (F := 13) rfl rfl rfl rfl g_1 ?_
  refine jw_aload_n (pc' := 5) rfl rfl ?_
  refine jw_getI (pc' := 8) (F := 14) rfl rfl rfl rfl g_1 ?_
  refine jw_icmp_ge (tgt := 23) (pc' := 11) rfl rfl (fun c_2 => ?_) (fun c_2 => ?_)
  · replace w := w.1 c_2
    refine jw_iconst (pc' := 24) (x := (0 : Int32)) rfl rfl ?_
    exact w_X1_describe_24 w
  · replace w := w.2 c_2
    refine jw_aload_n (pc' := 12) rfl rfl ?_
    refine jw_getR (pc' := 15) (F := 2) (t' := 123) rfl rfl rfl rfl rfl g_1 ?_
    refine jw_aload_n (pc' := 16) rfl rfl ?_
    refine jw_getI (pc' := 19) (F := 13) rfl rfl rfl rfl g_1 ?_
    obtain ⟨g_3, w⟩ := w
    obtain ⟨g_4, w⟩ := w
    refine jw_bald (pc' := 20) rfl rfl rfl rfl g_3 g_4.ix g_4.2 ?_
    refine jw_goto (pc' := 24) rfl rfl ?_
    exact w_X1_describe_24 w
def T_X1_describe (D : JD) (d : Nat) (Q : JO → JH → Prop) (r0 : Nat) (h : JH) : Prop := W_X1_describe_0 D d Q r0 h
theorem t_X1_describe {D : JD} {d : Nat} {Q : JO → JH → Prop} {r0 : Nat} {h : JH} (w : T_X1_describe D d Q r0 h) : cX1_describe D (d + 1) r0 h Q := by
  unfold T_X1_describe at w
  unfold cX1_describe
  exact w_X1_describe_0 w
def W_X1_execute_230 (D : JD) (d : Nat) (Q : JO → JH → Prop) (r0 : Nat) (y2 : Int64) (r5 : Nat) (h : JH) : Prop :=
  r0 ≠ 0 ∧ (cX1_rows D d r0 r5 y2 h (pV D h (fun h_2 => Q (.inl none) h_2) (jth Q)))
theorem w_X1_execute_230 {D : JD} {d : Nat} {Q : JO → JH → Prop} {r0 : Nat} {y2 : Int64} {r5 : Nat} {h : JH} (w : W_X1_execute_230 D d Q r0 y2 r5 h) : JW D (d + 1) mX1_execute 230 [some (vR 1 r0), none, some (vL y2), none, none, some (vR 37 r5), none, none, none] [] h Q := by
  unfold W_X1_execute_230 at w
  refine jw_aload_n (pc' := 231) rfl rfl ?_
  refine jw_aload (pc' := 233) rfl rfl ?_
  refine jw_lload_n (pc' := 234) rfl rfl ?_
  obtain ⟨g_1, w⟩ := w
  refine jw_cV (st := []) (sa := [vR 1 r0, vR 37 r5, vL y2]) okX1_rows rfl rfl rfl rfl rfl rfl (jstp_virtual (sa := [vR 37 r5, vL y2]) (st := []) (k := 0) rfl rfl sX1_rows okX1_rows g_1 (one1.k g_1) rfl rfl) w (fun h_2 _ _ w => ?_)
  exact jw_return rfl rfl w
def W_X1_execute_205 (D : JD) (d : Nat) (Q : JO → JH → Prop) (h : JH) : Prop :=
  Q (.inl none) h
theorem w_X1_execute_205 {D : JD} {d : Nat} {Q : JO → JH → Prop} {h : JH} (w : W_X1_execute_205 D d Q h) : JW D (d + 1) mX1_execute 205 [none, none, none, none, none, none, none, none, none] [] h Q := by
  unfold W_X1_execute_205 at w
  exact jw_return rfl rfl w
def W_X1_execute_177 (D : JD) (d : Nat) (Q : JO → JH → Prop) (r0 : Nat) (y2 : Int64) (r5 : Nat) (x7 : Int32) (r8 : Nat) (s0 : Int32) (h : JH) : Prop :=
  (¬ s0 = 0 → r0 ≠ 0 ∧ (cX1_spare D d r0 h (pR D h 7 (fun v_5 h_3 => r5 ≠ 0 ∧ ∀ h_7 : JH, h_7 = wfr h_3 172 r5 v_5 → ((jfr h_7 7 r0) ≠ 0 ∧ ((jfr h_7 172 r5) ≠ 0 ∧ (cX7_copy D d (jfr h_7 172 r5) (jfr h_7 34 (jfr h_7 7 r0)) h_7 (pV D h_7 (fun h_11 => W_X1_execute_230 D d Q r0 y2 r5 h_11) (jth Q)))))) (jth Q)))) ∧ (s0 = 0 → r0 ≠ 0 ∧ (cX1_tag D d r0 r8 h (pV D h (fun h_15 => (x7 = 0 → W_X1_execute_205 D d Q h_15) ∧ (¬ x7 = 0 → (jfr h_15 7 r0) ≠ 0 ∧ ((¬ (jfi h_15 36 (jfr h_15 7 r0)) = 0 → W_X1_execute_205 D d Q h_15) ∧ ((jfi h_15 36 (jfr h_15 7 r0)) = 0 → cX1_dropPortals D d r0 h_15 (pV D h_15 (fun h_21 => W_X1_execute_205 D d Q h_21) (jth Q)))))) (jth Q))))
theorem w_X1_execute_177 {D : JD} {d : Nat} {Q : JO → JH → Prop} {r0 : Nat} {y2 : Int64} {r5 : Nat} {x7 : Int32} {r8 : Nat} {s0 : Int32} {h : JH} (w : W_X1_execute_177 D d Q r0 y2 r5 x7 r8 s0 h) : JW D (d + 1) mX1_execute 177 [some (vR 1 r0), none, some (vL y2), none, none, some (vR 37 r5), none, some (vI x7), some (vR 64 r8)] [vI s0] h Q := by
  unfold W_X1_execute_177 at w
  refine jw_if_ne (tgt := 206) (pc' := 180) rfl rfl (fun c_1 => ?_) (fun c_1 => ?_)
  · replace w := w.1 c_1
    refine jw_aload (pc' := 208) rfl rfl ?_
    refine jw_aload_n (pc' := 209) rfl rfl ?_
    obtain ⟨g_2, w⟩ := w
    refine jw_cR (st := [vR 37 r5]) (sa := [vR 1 r0]) okX1_spare rfl rfl rfl rfl rfl rfl (jstp_virtual (sa := []) (st := [vR 37 r5]) (k := 0) rfl rfl sX1_spare okX1_spare g_2 (one1.k g_2) rfl rfl) w (fun v_5 h_3 _ _ _ w => ?_)
    obtain ⟨g_6, w⟩ := w
    refine jw_putR' (pc' := 215) (F := 172) rfl rfl rfl (Or.inr rfl) (Or.inl rfl) rfl rfl rfl g_6 (fun h_7 e_8 => ?_)
    replace w := w h_7 e_8
    refine jw_aload (pc' := 217) rfl rfl ?_
    refine jw_getR (pc' := 220) (F := 172) (t' := 7) rfl rfl rfl rfl rfl g_6 ?_
    refine jw_aload_n (pc' := 221) rfl rfl ?_
    refine jw_getR (pc' := 224) (F := 7) (t' := 3) rfl rfl rfl rfl rfl g_2 ?_
    obtain ⟨g_9, w⟩ := w
    refine jw_getR (pc' := 227) (F := 34) (t' := 110) rfl rfl rfl rfl rfl g_9 ?_
    obtain ⟨g_10, w⟩ := w
    refine jw_cV (st := []) (sa := [vR 7 (jfr h_7 172 r5), vR 110 (jfr h_7 34 (jfr h_7 7 r0))]) okX7_copy rfl rfl rfl rfl rfl rfl (jstp_virtual (sa := [vR 110 (jfr h_7 34 (jfr h_7 7 r0))]) (st := []) (k := 0) rfl rfl sX7_copy okX7_copy g_10 (one7.k g_10) rfl rfl) w (fun h_11 _ _ w => ?_)
    refine jw_gen (ls' := [some (vR 1 r0), none, some (vL y2), none, none, some (vR 37 r5), none, none, none]) (st' := []) (And.intro (Or.inl rfl) (And.intro (Or.inl rfl) (And.intro (Or.inl rfl) (trivial)))) (trivial) ?_
    exact w_X1_execute_230 w
  · replace w := w.2 c_1
    refine jw_aload_n (pc' := 181) rfl rfl ?_
    refine jw_aload (pc' := 183) rfl rfl ?_
    obtain ⟨g_14, w⟩ := w
    refine jw_cV (st := []) (sa := [vR 1 r0, vR 64 r8]) okX1_tag rfl rfl rfl rfl rfl rfl (jstp_virtual (sa := [vR 64 r8]) (st := []) (k := 0) rfl rfl sX1_tag okX1_tag g_14 (one1.k g_14) rfl rfl) w (fun h_15 _ _ w => ?_)
    refine jw_iload (pc' := 188) rfl rfl ?_
    refine jw_if_eq (tgt := 205) (pc' := 191) rfl rfl (fun c_18 => ?_) (fun c_18 => ?_)
    · replace w := w.1 c_18
      refine jw_gen (ls' := [none, none, none, none, none, none, none, none, none]) (st' := []) (trivial) (trivial) ?_
      exact w_X1_execute_205 w
    · replace w := w.2 c_18
      refine jw_aload_n (pc' := 192) rfl rfl ?_
      refine jw_getR (pc' := 195) (F := 7) (t' := 3) rfl rfl rfl rfl rfl g_14 ?_
      obtain ⟨g_19, w⟩ := w
      refine jw_getI (pc' := 198) (F := 36) rfl rfl rfl rfl g_19 ?_
      refine jw_if_ne (tgt := 205) (pc' := 201) rfl rfl (fun c_20 => ?_) (fun c_20 => ?_)
      · replace w := w.1 c_20
        refine jw_gen (ls' := [none, none, none, none, none, none, none, none, none]) (st' := []) (trivial) (trivial) ?_
        exact w_X1_execute_205 w
      · replace w := w.2 c_20
        refine jw_aload_n (pc' := 202) rfl rfl ?_
        refine jw_cV (st := []) (sa := [vR 1 r0]) okX1_dropPortals rfl rfl rfl rfl rfl rfl (jstp_virtual (sa := []) (st := []) (k := 0) rfl rfl sX1_dropPortals okX1_dropPortals g_14 (one1.k g_14) rfl rfl) w (fun h_21 _ _ w => ?_)
        refine jw_gen (ls' := [none, none, none, none, none, none, none, none, none]) (st' := []) (trivial) (trivial) ?_
        exact w_X1_execute_205 w
def W_X1_execute_164 (D : JD) (d : Nat) (Q : JO → JH → Prop) (r0 : Nat) (y2 : Int64) (r5 : Nat) (r6 : Nat) (x7 : Int32) (q0 : Nat) (h : JH) : Prop :=
  r5 ≠ 0 ∧ ∀ h_2 : JH, h_2 = wfi h 174 r5 (1 : Int32) → (r6 ≠ 0 ∧ (v57_selects D d r6 h_2 (pI D h_2 (fun v_7 h_5 => W_X1_execute_177 D d Q r0 y2 r5 x7 q0 v_7 h_5) (jth Q))))
theorem w_X1_execute_164 {D : JD} {d : Nat} {Q : JO → JH → Prop} {r0 : Nat} {y2 : Int64} {r5 : Nat} {r6 : Nat} {x7 : Int32} {q0 : Nat} {h : JH} (w : W_X1_execute_164 D d Q r0 y2 r5 r6 x7 q0 h) : JW D (d + 1) mX1_execute 164 [some (vR 1 r0), none, some (vL y2), none, none, some (vR 37 r5), some (vR 57 r6), some (vI x7), none] [vR 64 q0] h Q := by
  unfold W_X1_execute_164 at w
  refine jw_astore (pc' := 166) (ls' := [some (vR 1 r0), none, some (vL y2), none, none, some (vR 37 r5), some (vR 57 r6), some (vI x7), some (vR 64 q0)]) rfl (by decide) rfl ?_
  refine jw_aload (pc' := 168) rfl rfl ?_
  refine jw_iconst (pc' := 169) (x := (1 : Int32)) rfl rfl ?_
  obtain ⟨g_1, w⟩ := w
  refine jw_putI' (pc' := 172) (F := 174) rfl rfl rfl (Or.inr rfl) (Or.inl rfl) rfl (rfl) (rfl) rfl g_1 (fun h_2 e_3 => ?_)
  replace w := w h_2 e_3
  refine jw_aload (pc' := 174) rfl rfl ?_
  obtain ⟨g_4, w⟩ := w
  refine JW.inv (fun hI => JW.oks (fun ho => ?_))
  have hkd := und57.k hI (ho (vR 57 r6) (by simp)) g_4
  simp only [List.mem_cons, List.not_mem_nil, or_false] at hkd
  clear ho hI
  rcases hkd with e_8 | e_8 | e_8 | e_8 | e_8 | e_8 | e_8
  · refine jw_cI (st := []) (sa := [vR 57 r6]) okX20_selects rfl rfl rfl rfl rfl rfl (jstp_up (sa := []) (st := []) rfl (lw_g (jtb_mem (c := 13) (i := 108) rfl) rfl) um3 okX20_selects g_4 (fun _ _ => by rw [e_8]; exact ⟨rfl, rfl⟩) rfl rfl) (w.1 e_8) (fun v_7 h_5 _ _ w => ?_)
    refine jw_gen (ls' := [some (vR 1 r0), none, some (vL y2), none, none, some (vR 37 r5), none, some (vI x7), some (vR 64 q0)]) (st' := [vI v_7]) (And.intro (Or.inl rfl) (And.intro (Or.inl rfl) (And.intro (Or.inl rfl) (And.intro (Or.inl rfl) (And.intro (Or.inl rfl) (trivial)))))) (And.intro (Or.inl rfl) (trivial)) ?_
    exact w_X1_execute_177 w
  · refine jw_cI (st := []) (sa := [vR 57 r6]) okX20_selects rfl rfl rfl rfl rfl rfl (jstp_up (sa := []) (st := []) rfl (lw_g (jtb_mem (c := 13) (i := 108) rfl) rfl) um4 okX20_selects g_4 (fun _ _ => by rw [e_8]; exact ⟨rfl, rfl⟩) rfl rfl) (w.2.1 e_8) (fun v_7 h_5 _ _ w => ?_)
    refine jw_gen (ls' := [some (vR 1 r0), none, some (vL y2), none, none, some (vR 37 r5), none, some (vI x7), some (vR 64 q0)]) (st' := [vI v_7]) (And.intro (Or.inl rfl) (And.intro (Or.inl rfl) (And.intro (Or.inl rfl) (And.intro (Or.inl rfl) (And.intro (Or.inl rfl) (trivial)))))) (And.intro (Or.inl rfl) (trivial)) ?_
    exact w_X1_execute_177 w
  · refine jw_cI (st := []) (sa := [vR 57 r6]) okX20_selects rfl rfl rfl rfl rfl rfl (jstp_up (sa := []) (st := []) rfl (lw_g (jtb_mem (c := 13) (i := 108) rfl) rfl) um5 okX20_selects g_4 (fun _ _ => by rw [e_8]; exact ⟨rfl, rfl⟩) rfl rfl) (w.2.2.1 e_8) (fun v_7 h_5 _ _ w => ?_)
    refine jw_gen (ls' := [some (vR 1 r0), none, some (vL y2), none, none, some (vR 37 r5), none, some (vI x7), some (vR 64 q0)]) (st' := [vI v_7]) (And.intro (Or.inl rfl) (And.intro (Or.inl rfl) (And.intro (Or.inl rfl) (And.intro (Or.inl rfl) (And.intro (Or.inl rfl) (trivial)))))) (And.intro (Or.inl rfl) (trivial)) ?_
    exact w_X1_execute_177 w
  · refine jw_cI (st := []) (sa := [vR 57 r6]) okX20_selects rfl rfl rfl rfl rfl rfl (jstp_up (sa := []) (st := []) rfl (lw_g (jtb_mem (c := 13) (i := 108) rfl) rfl) um6 okX20_selects g_4 (fun _ _ => by rw [e_8]; exact ⟨rfl, rfl⟩) rfl rfl) (w.2.2.2.1 e_8) (fun v_7 h_5 _ _ w => ?_)
    refine jw_gen (ls' := [some (vR 1 r0), none, some (vL y2), none, none, some (vR 37 r5), none, some (vI x7), some (vR 64 q0)]) (st' := [vI v_7]) (And.intro (Or.inl rfl) (And.intro (Or.inl rfl) (And.intro (Or.inl rfl) (And.intro (Or.inl rfl) (And.intro (Or.inl rfl) (trivial)))))) (And.intro (Or.inl rfl) (trivial)) ?_
    exact w_X1_execute_177 w
  · refine jw_cI (st := []) (sa := [vR 57 r6]) okX20_selects rfl rfl rfl rfl rfl rfl (jstp_up (sa := []) (st := []) rfl (lw_g (jtb_mem (c := 13) (i := 108) rfl) rfl) um7 okX20_selects g_4 (fun _ _ => by rw [e_8]; exact ⟨rfl, rfl⟩) rfl rfl) (w.2.2.2.2.1 e_8) (fun v_7 h_5 _ _ w => ?_)
    refine jw_gen (ls' := [some (vR 1 r0), none, some (vL y2), none, none, some (vR 37 r5), none, some (vI x7), some (vR 64 q0)]) (st' := [vI v_7]) (And.intro (Or.inl rfl) (And.intro (Or.inl rfl) (And.intro (Or.inl rfl) (And.intro (Or.inl rfl) (And.intro (Or.inl rfl) (trivial)))))) (And.intro (Or.inl rfl) (trivial)) ?_
    exact w_X1_execute_177 w
  · refine jw_gen (ls' := _) (st' := [vR 33 r6]) (jgl_rf _ _) (And.intro (Or.inr ⟨_, _, _, rfl, rfl, Or.inr (Or.inr (by rw [e_8]; rfl))⟩) (jgs_rf _ _)) ?_
    refine jw_cI (st := []) (sa := [vR 33 r6]) okX40_selects rfl rfl rfl rfl rfl rfl (jstp_up (sa := []) (st := []) rfl (lw_g (jtb_mem (c := 13) (i := 108) rfl) rfl) um8 okX40_selects g_4 (fun _ _ => by rw [e_8]; exact ⟨rfl, rfl⟩) rfl rfl) (w.2.2.2.2.2.1 e_8) (fun v_7 h_5 _ _ w => ?_)
    refine jw_gen (ls' := [some (vR 1 r0), none, some (vL y2), none, none, some (vR 37 r5), none, some (vI x7), some (vR 64 q0)]) (st' := [vI v_7]) (And.intro (Or.inl rfl) (And.intro (Or.inl rfl) (And.intro (Or.inl rfl) (And.intro (Or.inl rfl) (And.intro (Or.inl rfl) (trivial)))))) (And.intro (Or.inl rfl) (trivial)) ?_
    exact w_X1_execute_177 w
  · refine jw_cI (st := []) (sa := [vR 57 r6]) okX20_selects rfl rfl rfl rfl rfl rfl (jstp_up (sa := []) (st := []) rfl (lw_g (jtb_mem (c := 13) (i := 108) rfl) rfl) um9 okX20_selects g_4 (fun _ _ => by rw [e_8]; exact ⟨rfl, rfl⟩) rfl rfl) (w.2.2.2.2.2.2 e_8) (fun v_7 h_5 _ _ w => ?_)
    refine jw_gen (ls' := [some (vR 1 r0), none, some (vL y2), none, none, some (vR 37 r5), none, some (vI x7), some (vR 64 q0)]) (st' := [vI v_7]) (And.intro (Or.inl rfl) (And.intro (Or.inl rfl) (And.intro (Or.inl rfl) (And.intro (Or.inl rfl) (And.intro (Or.inl rfl) (trivial)))))) (And.intro (Or.inl rfl) (trivial)) ?_
    exact w_X1_execute_177 w
def W_X1_execute_116 (D : JD) (d : Nat) (Q : JO → JH → Prop) (r0 : Nat) (y2 : Int64) (r5 : Nat) (r6 : Nat) (h : JH) : Prop :=
  r5 ≠ 0 ∧ ((¬ (jfi h 174 r5) = 0 → W_X1_execute_230 D d Q r0 y2 r5 h) ∧ ((jfi h 174 r5) = 0 → r0 ≠ 0 ∧ ((jfr h 7 r0) ≠ 0 ∧ ((jfr h 170 r5) ≠ 0 ∧ (cX3_check D d (jfr h 7 r0) r6 (jfr h 168 (jfr h 170 r5)) (jfr h 171 r5) h (pV D h (fun h_6 => r6 ≠ 0 ∧ (v57_work D d r6 (jfr h_6 7 r0) h_6 (pR D h_6 64 (fun v_12 h_10 => W_X1_execute_164 D d Q r0 y2 r5 r6 (jfi h 36 (jfr h 7 r0)) v_12 h_10) (jth Q)))) (jth Q)))))))
theorem w_X1_execute_116 {D : JD} {d : Nat} {Q : JO → JH → Prop} {r0 : Nat} {y2 : Int64} {r5 : Nat} {r6 : Nat} {h : JH} (w : W_X1_execute_116 D d Q r0 y2 r5 r6 h) : JW D (d + 1) mX1_execute 116 [some (vR 1 r0), none, some (vL y2), none, none, some (vR 37 r5), some (vR 57 r6), none, none] [] h Q := by
  unfold W_X1_execute_116 at w
  refine jw_aload (pc' := 118) rfl rfl ?_
  obtain ⟨g_1, w⟩ := w
  refine jw_getI (pc' := 121) (F := 174) rfl rfl rfl rfl g_1 ?_
  refine jw_if_ne (tgt := 230) (pc' := 124) rfl rfl (fun c_2 => ?_) (fun c_2 => ?_)
  · replace w := w.1 c_2
    refine jw_gen (ls' := [some (vR 1 r0), none, some (vL y2), none, none, some (vR 37 r5), none, none, none]) (st' := []) (And.intro (Or.inl rfl) (And.intro (Or.inl rfl) (And.intro (Or.inl rfl) (trivial)))) (trivial) ?_
    exact w_X1_execute_230 w
  · replace w := w.2 c_2
    refine jw_aload_n (pc' := 125) rfl rfl ?_
    obtain ⟨g_3, w⟩ := w
    refine jw_getR (pc' := 128) (F := 7) (t' := 3) rfl rfl rfl rfl rfl g_3 ?_
    obtain ⟨g_4, w⟩ := w
    refine jw_getI (pc' := 131) (F := 36) rfl rfl rfl rfl g_4 ?_
    refine jw_istore (pc' := 133) (ls' := [some (vR 1 r0), none, some (vL y2), none, none, some (vR 37 r5), some (vR 57 r6), some (vI (jfi h 36 (jfr h 7 r0))), none]) rfl (by decide) rfl ?_
    refine jw_aload_n (pc' := 134) rfl rfl ?_
    refine jw_getR (pc' := 137) (F := 7) (t' := 3) rfl rfl rfl rfl rfl g_3 ?_
    refine jw_aload (pc' := 139) rfl rfl ?_
    refine jw_aload (pc' := 141) rfl rfl ?_
    refine jw_getR (pc' := 144) (F := 170) (t' := 36) rfl rfl rfl rfl rfl g_1 ?_
    obtain ⟨g_5, w⟩ := w
    refine jw_getR (pc' := 147) (F := 168) (t' := 161) rfl rfl rfl rfl rfl g_5 ?_
    refine jw_aload (pc' := 149) rfl rfl ?_
    refine jw_getR (pc' := 152) (F := 171) (t' := 162) rfl rfl rfl rfl rfl g_1 ?_
    refine jw_cV (st := []) (sa := [vR 3 (jfr h 7 r0), vR 57 r6, vR 161 (jfr h 168 (jfr h 170 r5)), vR 162 (jfr h 171 r5)]) okX3_check rfl rfl rfl rfl rfl rfl (jstp_virtual (sa := [vR 57 r6, vR 161 (jfr h 168 (jfr h 170 r5)), vR 162 (jfr h 171 r5)]) (st := []) (k := 0) rfl rfl sX3_check okX3_check g_4 (one3.k g_4) rfl rfl) w (fun h_6 _ _ w => ?_)
    refine jw_aload (pc' := 157) rfl rfl ?_
    refine jw_aload_n (pc' := 158) rfl rfl ?_
    refine jw_getR (pc' := 161) (F := 7) (t' := 3) rfl rfl rfl rfl rfl g_3 ?_
    obtain ⟨g_9, w⟩ := w
    refine JW.inv (fun hI => JW.oks (fun ho => ?_))
    have hkd := und57.k hI (ho (vR 57 r6) (by simp)) g_9
    simp only [List.mem_cons, List.not_mem_nil, or_false] at hkd
    clear ho hI
    rcases hkd with e_13 | e_13 | e_13 | e_13 | e_13 | e_13 | e_13
    · refine jw_gen (ls' := _) (st' := [vR 3 (jfr h_6 7 r0), vR 17 r6]) (jgl_rf _ _) (And.intro (Or.inl rfl) (And.intro (Or.inr ⟨_, _, _, rfl, rfl, Or.inr (Or.inr (by rw [e_13]; rfl))⟩) (jgs_rf _ _))) ?_
      refine jw_cR (st := []) (sa := [vR 17 r6, vR 3 (jfr h_6 7 r0)]) okX21_work rfl rfl rfl rfl rfl rfl (jstp_up (sa := [vR 3 (jfr h_6 7 r0)]) (st := []) rfl (lw_g (jtb_mem (c := 11) (i := 208) rfl) rfl) um10 okX21_work g_9 (fun _ _ => by rw [e_13]; exact ⟨rfl, rfl⟩) rfl rfl) (w.1 e_13) (fun v_12 h_10 _ _ _ w => ?_)
      exact w_X1_execute_164 w
    · refine jw_gen (ls' := _) (st' := [vR 3 (jfr h_6 7 r0), vR 18 r6]) (jgl_rf _ _) (And.intro (Or.inl rfl) (And.intro (Or.inr ⟨_, _, _, rfl, rfl, Or.inr (Or.inr (by rw [e_13]; rfl))⟩) (jgs_rf _ _))) ?_
      refine jw_cR (st := []) (sa := [vR 18 r6, vR 3 (jfr h_6 7 r0)]) okX22_work rfl rfl rfl rfl rfl rfl (jstp_up (sa := [vR 3 (jfr h_6 7 r0)]) (st := []) rfl (lw_g (jtb_mem (c := 11) (i := 208) rfl) rfl) um11 okX22_work g_9 (fun _ _ => by rw [e_13]; exact ⟨rfl, rfl⟩) rfl rfl) (w.2.1 e_13) (fun v_12 h_10 _ _ _ w => ?_)
      exact w_X1_execute_164 w
    · refine jw_gen (ls' := _) (st' := [vR 3 (jfr h_6 7 r0), vR 19 r6]) (jgl_rf _ _) (And.intro (Or.inl rfl) (And.intro (Or.inr ⟨_, _, _, rfl, rfl, Or.inr (Or.inr (by rw [e_13]; rfl))⟩) (jgs_rf _ _))) ?_
      refine jw_cR (st := []) (sa := [vR 19 r6, vR 3 (jfr h_6 7 r0)]) okX23_work rfl rfl rfl rfl rfl rfl (jstp_up (sa := [vR 3 (jfr h_6 7 r0)]) (st := []) rfl (lw_g (jtb_mem (c := 11) (i := 208) rfl) rfl) um12 okX23_work g_9 (fun _ _ => by rw [e_13]; exact ⟨rfl, rfl⟩) rfl rfl) (w.2.2.1 e_13) (fun v_12 h_10 _ _ _ w => ?_)
      exact w_X1_execute_164 w
    · refine jw_gen (ls' := _) (st' := [vR 3 (jfr h_6 7 r0), vR 30 r6]) (jgl_rf _ _) (And.intro (Or.inl rfl) (And.intro (Or.inr ⟨_, _, _, rfl, rfl, Or.inr (Or.inr (by rw [e_13]; rfl))⟩) (jgs_rf _ _))) ?_
      refine jw_cR (st := []) (sa := [vR 30 r6, vR 3 (jfr h_6 7 r0)]) okX37_work rfl rfl rfl rfl rfl rfl (jstp_up (sa := [vR 3 (jfr h_6 7 r0)]) (st := []) rfl (lw_g (jtb_mem (c := 11) (i := 208) rfl) rfl) um13 okX37_work g_9 (fun _ _ => by rw [e_13]; exact ⟨rfl, rfl⟩) rfl rfl) (w.2.2.2.1 e_13) (fun v_12 h_10 _ _ _ w => ?_)
      exact w_X1_execute_164 w
    · refine jw_gen (ls' := _) (st' := [vR 3 (jfr h_6 7 r0), vR 32 r6]) (jgl_rf _ _) (And.intro (Or.inl rfl) (And.intro (Or.inr ⟨_, _, _, rfl, rfl, Or.inr (Or.inr (by rw [e_13]; rfl))⟩) (jgs_rf _ _))) ?_
      refine jw_cR (st := []) (sa := [vR 32 r6, vR 3 (jfr h_6 7 r0)]) okX39_work rfl rfl rfl rfl rfl rfl (jstp_up (sa := [vR 3 (jfr h_6 7 r0)]) (st := []) rfl (lw_g (jtb_mem (c := 11) (i := 208) rfl) rfl) um14 okX39_work g_9 (fun _ _ => by rw [e_13]; exact ⟨rfl, rfl⟩) rfl rfl) (w.2.2.2.2.1 e_13) (fun v_12 h_10 _ _ _ w => ?_)
      exact w_X1_execute_164 w
    · refine jw_gen (ls' := _) (st' := [vR 3 (jfr h_6 7 r0), vR 33 r6]) (jgl_rf _ _) (And.intro (Or.inl rfl) (And.intro (Or.inr ⟨_, _, _, rfl, rfl, Or.inr (Or.inr (by rw [e_13]; rfl))⟩) (jgs_rf _ _))) ?_
      refine jw_cR (st := []) (sa := [vR 33 r6, vR 3 (jfr h_6 7 r0)]) okX40_work rfl rfl rfl rfl rfl rfl (jstp_up (sa := [vR 3 (jfr h_6 7 r0)]) (st := []) rfl (lw_g (jtb_mem (c := 11) (i := 208) rfl) rfl) um15 okX40_work g_9 (fun _ _ => by rw [e_13]; exact ⟨rfl, rfl⟩) rfl rfl) (w.2.2.2.2.2.1 e_13) (fun v_12 h_10 _ _ _ w => ?_)
      exact w_X1_execute_164 w
    · refine jw_gen (ls' := _) (st' := [vR 3 (jfr h_6 7 r0), vR 35 r6]) (jgl_rf _ _) (And.intro (Or.inl rfl) (And.intro (Or.inr ⟨_, _, _, rfl, rfl, Or.inr (Or.inr (by rw [e_13]; rfl))⟩) (jgs_rf _ _))) ?_
      refine jw_cR (st := []) (sa := [vR 35 r6, vR 3 (jfr h_6 7 r0)]) okX42_work rfl rfl rfl rfl rfl rfl (jstp_up (sa := [vR 3 (jfr h_6 7 r0)]) (st := []) rfl (lw_g (jtb_mem (c := 11) (i := 208) rfl) rfl) um16 okX42_work g_9 (fun _ _ => by rw [e_13]; exact ⟨rfl, rfl⟩) rfl rfl) (w.2.2.2.2.2.2 e_13) (fun v_12 h_10 _ _ _ w => ?_)
      exact w_X1_execute_164 w
def W_X1_execute_106 (D : JD) (d : Nat) (Q : JO → JH → Prop) (r0 : Nat) (y2 : Int64) (r5 : Nat) (r6 : Nat) (s0 : Int32) (h : JH) : Prop :=
  (¬ s0 = 0 → W_X1_execute_116 D d Q r0 y2 r5 r6 h) ∧ (s0 = 0 → cX1_fault D d (jcs D 216) h (pR D h 9 (fun v_4 h_2 => v_4 ≠ 0 ∧ (Q (.inr v_4) h_2)) (jth Q)))
theorem w_X1_execute_106 {D : JD} {d : Nat} {Q : JO → JH → Prop} {r0 : Nat} {y2 : Int64} {r5 : Nat} {r6 : Nat} {s0 : Int32} {h : JH} (w : W_X1_execute_106 D d Q r0 y2 r5 r6 s0 h) : JW D (d + 1) mX1_execute 106 [some (vR 1 r0), none, some (vL y2), none, none, some (vR 37 r5), some (vR 57 r6), none, none] [vI s0] h Q := by
  unfold W_X1_execute_106 at w
  refine jw_if_ne (tgt := 116) (pc' := 109) rfl rfl (fun c_1 => ?_) (fun c_1 => ?_)
  · replace w := w.1 c_1
    exact w_X1_execute_116 w
  · replace w := w.2 c_1
    refine jw_ldcwS (pc' := 112) rfl rfl rfl rfl ?_
    refine jw_cR (st := []) (sa := [vR 51 (jcs D 216)]) okX1_fault rfl rfl rfl rfl rfl rfl (jstp_static (sa := [vR 51 (jcs D 216)]) (st := []) rfl rfl sX1_fault okX1_fault rfl rfl) w (fun v_4 h_2 _ _ _ w => ?_)
    obtain ⟨g_5, w⟩ := w
    exact jw_athrow rfl rfl g_5 w
def W_X1_execute_93 (D : JD) (d : Nat) (Q : JO → JH → Prop) (r0 : Nat) (y2 : Int64) (r5 : Nat) (r6 : Nat) (h : JH) : Prop :=
  r5 ≠ 0 ∧ (((jfi h 174 r5) = 0 → W_X1_execute_116 D d Q r0 y2 r5 r6 h) ∧ (¬ (jfi h 174 r5) = 0 → r6 ≠ 0 ∧ (v57_selects D d r6 h (pI D h (fun v_6 h_4 => W_X1_execute_106 D d Q r0 y2 r5 r6 v_6 h_4) (jth Q)))))
theorem w_X1_execute_93 {D : JD} {d : Nat} {Q : JO → JH → Prop} {r0 : Nat} {y2 : Int64} {r5 : Nat} {r6 : Nat} {h : JH} (w : W_X1_execute_93 D d Q r0 y2 r5 r6 h) : JW D (d + 1) mX1_execute 93 [some (vR 1 r0), none, some (vL y2), none, none, some (vR 37 r5), some (vR 57 r6), none, none] [] h Q := by
  unfold W_X1_execute_93 at w
  refine jw_aload (pc' := 95) rfl rfl ?_
  obtain ⟨g_1, w⟩ := w
  refine jw_getI (pc' := 98) (F := 174) rfl rfl rfl rfl g_1 ?_
  refine jw_if_eq (tgt := 116) (pc' := 101) rfl rfl (fun c_2 => ?_) (fun c_2 => ?_)
  · replace w := w.1 c_2
    exact w_X1_execute_116 w
  · replace w := w.2 c_2
    refine jw_aload (pc' := 103) rfl rfl ?_
    obtain ⟨g_3, w⟩ := w
    refine JW.inv (fun hI => JW.oks (fun ho => ?_))
    have hkd := und57.k hI (ho (vR 57 r6) (by simp)) g_3
    simp only [List.mem_cons, List.not_mem_nil, or_false] at hkd
    clear ho hI
    rcases hkd with e_7 | e_7 | e_7 | e_7 | e_7 | e_7 | e_7
    · refine jw_cI (st := []) (sa := [vR 57 r6]) okX20_selects rfl rfl rfl rfl rfl rfl (jstp_up (sa := []) (st := []) rfl (lw_g (jtb_mem (c := 13) (i := 108) rfl) rfl) um3 okX20_selects g_3 (fun _ _ => by rw [e_7]; exact ⟨rfl, rfl⟩) rfl rfl) (w.1 e_7) (fun v_6 h_4 _ _ w => ?_)
      exact w_X1_execute_106 w
    · refine jw_cI (st := []) (sa := [vR 57 r6]) okX20_selects rfl rfl rfl rfl rfl rfl (jstp_up (sa := []) (st := []) rfl (lw_g (jtb_mem (c := 13) (i := 108) rfl) rfl) um4 okX20_selects g_3 (fun _ _ => by rw [e_7]; exact ⟨rfl, rfl⟩) rfl rfl) (w.2.1 e_7) (fun v_6 h_4 _ _ w => ?_)
      exact w_X1_execute_106 w
    · refine jw_cI (st := []) (sa := [vR 57 r6]) okX20_selects rfl rfl rfl rfl rfl rfl (jstp_up (sa := []) (st := []) rfl (lw_g (jtb_mem (c := 13) (i := 108) rfl) rfl) um5 okX20_selects g_3 (fun _ _ => by rw [e_7]; exact ⟨rfl, rfl⟩) rfl rfl) (w.2.2.1 e_7) (fun v_6 h_4 _ _ w => ?_)
      exact w_X1_execute_106 w
    · refine jw_cI (st := []) (sa := [vR 57 r6]) okX20_selects rfl rfl rfl rfl rfl rfl (jstp_up (sa := []) (st := []) rfl (lw_g (jtb_mem (c := 13) (i := 108) rfl) rfl) um6 okX20_selects g_3 (fun _ _ => by rw [e_7]; exact ⟨rfl, rfl⟩) rfl rfl) (w.2.2.2.1 e_7) (fun v_6 h_4 _ _ w => ?_)
      exact w_X1_execute_106 w
    · refine jw_cI (st := []) (sa := [vR 57 r6]) okX20_selects rfl rfl rfl rfl rfl rfl (jstp_up (sa := []) (st := []) rfl (lw_g (jtb_mem (c := 13) (i := 108) rfl) rfl) um7 okX20_selects g_3 (fun _ _ => by rw [e_7]; exact ⟨rfl, rfl⟩) rfl rfl) (w.2.2.2.2.1 e_7) (fun v_6 h_4 _ _ w => ?_)
      exact w_X1_execute_106 w
    · refine jw_gen (ls' := _) (st' := [vR 33 r6]) (jgl_rf _ _) (And.intro (Or.inr ⟨_, _, _, rfl, rfl, Or.inr (Or.inr (by rw [e_7]; rfl))⟩) (jgs_rf _ _)) ?_
      refine jw_cI (st := []) (sa := [vR 33 r6]) okX40_selects rfl rfl rfl rfl rfl rfl (jstp_up (sa := []) (st := []) rfl (lw_g (jtb_mem (c := 13) (i := 108) rfl) rfl) um8 okX40_selects g_3 (fun _ _ => by rw [e_7]; exact ⟨rfl, rfl⟩) rfl rfl) (w.2.2.2.2.2.1 e_7) (fun v_6 h_4 _ _ w => ?_)
      exact w_X1_execute_106 w
    · refine jw_cI (st := []) (sa := [vR 57 r6]) okX20_selects rfl rfl rfl rfl rfl rfl (jstp_up (sa := []) (st := []) rfl (lw_g (jtb_mem (c := 13) (i := 108) rfl) rfl) um9 okX20_selects g_3 (fun _ _ => by rw [e_7]; exact ⟨rfl, rfl⟩) rfl rfl) (w.2.2.2.2.2.2 e_7) (fun v_6 h_4 _ _ w => ?_)
      exact w_X1_execute_106 w
def W_X1_execute_0 (D : JD) (d : Nat) (Q : JO → JH → Prop) (r0 : Nat) (h : JH) : Prop :=
  r0 ≠ 0 ∧ (cX1_string D d r0 h (pR D h 64 (fun v_4 h_2 => cX1_number D d r0 (4 : Int32) h_2 (pL D h_2 (fun v_6 h_5 => cX1_all D d r0 h_5 (pV D h_5 (fun h_7 => cX1_portal D d r0 v_4 h_7 (pI D h_7 (fun v_12 h_10 => (0 ≤ v_12 → (jfr h_10 10 r0) ≠ 0 ∧ jin v_12 (jln h_10 (jfr h_10 10 r0)) ∧ ((jar h_10 (jfr h_10 10 r0) (ixn v_12)) ≠ 0 ∧ ((jfr h_10 170 (jar h_10 (jfr h_10 10 r0) (ixn v_12))) ≠ 0 ∧ (((jfr h_10 167 (jfr h_10 170 (jar h_10 (jfr h_10 10 r0) (ixn v_12)))) ≠ 0 → (jfr h_10 7 r0) ≠ 0 ∧ (((jfi h_10 37 (jfr h_10 7 r0)) = 0 → W_X1_execute_93 D d Q r0 v_6 (jar h_10 (jfr h_10 10 r0) (ixn v_12)) (jfr h_10 167 (jfr h_10 170 (jar h_10 (jfr h_10 10 r0) (ixn v_12)))) h_10) ∧ (¬ (jfi h_10 37 (jfr h_10 7 r0)) = 0 → cX3_ends D d (jfr h_10 167 (jfr h_10 170 (jar h_10 (jfr h_10 10 r0) (ixn v_12)))) h_10 (pI D h_10 (fun v_23 h_21 => (¬ v_23 = 0 → W_X1_execute_93 D d Q r0 v_6 (jar h_10 (jfr h_10 10 r0) (ixn v_12)) (jfr h_10 167 (jfr h_10 170 (jar h_10 (jfr h_10 10 r0) (ixn v_12)))) h_21) ∧ (v_23 = 0 → cX1_fault D d (jcs D 215) h_21 (pR D h_21 9 (fun v_27 h_25 => v_27 ≠ 0 ∧ (Q (.inr v_27) h_25)) (jth Q)))) (jth Q))))) ∧ ((jfr h_10 167 (jfr h_10 170 (jar h_10 (jfr h_10 10 r0) (ixn v_12)))) = 0 → (jfr h_10 4 r0) ≠ 0 ∧ (cX2_plain D d (jfr h_10 4 r0) (73 : Int32) h_10 (pV D h_10 (fun h_30 => Q (.inl none) h_30) (jth Q)))))))) ∧ (¬ 0 ≤ v_12 → cX1_fault D d (jcs D 214) h_10 (pR D h_10 9 (fun v_35 h_33 => v_35 ≠ 0 ∧ (Q (.inr v_35) h_33)) (jth Q)))) (jth Q))) (jth Q))) (jth Q))) (jth Q)))
theorem w_X1_execute_0 {D : JD} {d : Nat} {Q : JO → JH → Prop} {r0 : Nat} {h : JH} (w : W_X1_execute_0 D d Q r0 h) : JW D (d + 1) mX1_execute 0 [some (vR 1 r0), none, none, none, none, none, none, none, none] [] h Q := by
  unfold W_X1_execute_0 at w
  refine jw_aload_n (pc' := 1) rfl rfl ?_
  obtain ⟨g_1, w⟩ := w
  refine jw_cR (st := []) (sa := [vR 1 r0]) okX1_string rfl rfl rfl rfl rfl rfl (jstp_virtual (sa := []) (st := []) (k := 0) rfl rfl sX1_string okX1_string g_1 (one1.k g_1) rfl rfl) w (fun v_4 h_2 _ _ _ w => ?_)
  refine jw_astore_n (pc' := 5) (ls' := [some (vR 1 r0), some (vR 64 v_4), none, none, none, none, none, none, none]) rfl (by decide) rfl ?_
  refine jw_aload_n (pc' := 6) rfl rfl ?_
  refine jw_iconst (pc' := 7) (x := (4 : Int32)) rfl rfl ?_
  refine jw_cL (st := []) (sa := [vR 1 r0, vI (4 : Int32)]) okX1_number rfl rfl rfl rfl rfl rfl (jstp_virtual (sa := [vI (4 : Int32)]) (st := []) (k := 0) rfl rfl sX1_number okX1_number g_1 (one1.k g_1) rfl rfl) w (fun v_6 h_5 _ _ w => ?_)
  refine jw_lstore_n (pc' := 11) (ls' := [some (vR 1 r0), some (vR 64 v_4), some (vL v_6), none, none, none, none, none, none]) rfl (by decide) rfl ?_
  refine jw_aload_n (pc' := 12) rfl rfl ?_
  refine jw_cV (st := []) (sa := [vR 1 r0]) okX1_all rfl rfl rfl rfl rfl rfl (jstp_virtual (sa := []) (st := []) (k := 0) rfl rfl sX1_all okX1_all g_1 (one1.k g_1) rfl rfl) w (fun h_7 _ _ w => ?_)
  refine jw_aload_n (pc' := 16) rfl rfl ?_
  refine jw_aload_n (pc' := 17) rfl rfl ?_
  refine jw_cI (st := []) (sa := [vR 1 r0, vR 64 v_4]) okX1_portal rfl rfl rfl rfl rfl rfl (jstp_virtual (sa := [vR 64 v_4]) (st := []) (k := 0) rfl rfl sX1_portal okX1_portal g_1 (one1.k g_1) rfl rfl) w (fun v_12 h_10 _ _ w => ?_)
  refine jw_istore (pc' := 22) (ls' := [some (vR 1 r0), some (vR 64 v_4), some (vL v_6), none, some (vI v_12), none, none, none, none]) rfl (by decide) rfl ?_
  refine jw_iload (pc' := 24) rfl rfl ?_
  refine jw_if_ge (tgt := 34) (pc' := 27) rfl rfl (fun c_13 => ?_) (fun c_13 => ?_)
  · replace w := w.1 c_13
    refine jw_aload_n (pc' := 35) rfl rfl ?_
    refine jw_getR (pc' := 38) (F := 10) (t' := 125) rfl rfl rfl rfl rfl g_1 ?_
    refine jw_iload (pc' := 40) rfl rfl ?_
    obtain ⟨g_14, w⟩ := w
    obtain ⟨g_15, w⟩ := w
    refine jw_aald (pc' := 41) (t' := 37) rfl rfl rfl rfl g_14 g_15.ix g_15.2 ?_
    refine jw_astore (pc' := 43) (ls' := [some (vR 1 r0), some (vR 64 v_4), some (vL v_6), none, some (vI v_12), some (vR 37 (jar h_10 (jfr h_10 10 r0) (ixn v_12))), none, none, none]) rfl (by decide) rfl ?_
    refine jw_aload (pc' := 45) rfl rfl ?_
    obtain ⟨g_16, w⟩ := w
    refine jw_getR (pc' := 48) (F := 170) (t' := 36) rfl rfl rfl rfl rfl g_16 ?_
    obtain ⟨g_17, w⟩ := w
    refine jw_getR (pc' := 51) (F := 167) (t' := 57) rfl rfl rfl rfl rfl g_17 ?_
    refine jw_astore (pc' := 53) (ls' := [some (vR 1 r0), some (vR 64 v_4), some (vL v_6), none, some (vI v_12), some (vR 37 (jar h_10 (jfr h_10 10 r0) (ixn v_12))), some (vR 57 (jfr h_10 167 (jfr h_10 170 (jar h_10 (jfr h_10 10 r0) (ixn v_12))))), none, none]) rfl (by decide) rfl ?_
    refine jw_aload (pc' := 55) rfl rfl ?_
    refine jw_ifnonnull (tgt := 68) (pc' := 58) rfl rfl (fun c_18 => ?_) (fun c_18 => ?_)
    · replace w := w.1 c_18
      refine jw_aload_n (pc' := 69) rfl rfl ?_
      refine jw_getR (pc' := 72) (F := 7) (t' := 3) rfl rfl rfl rfl rfl g_1 ?_
      obtain ⟨g_19, w⟩ := w
      refine jw_getI (pc' := 75) (F := 37) rfl rfl rfl rfl g_19 ?_
      refine jw_if_eq (tgt := 93) (pc' := 78) rfl rfl (fun c_20 => ?_) (fun c_20 => ?_)
      · replace w := w.1 c_20
        refine jw_gen (ls' := [some (vR 1 r0), none, some (vL v_6), none, none, some (vR 37 (jar h_10 (jfr h_10 10 r0) (ixn v_12))), some (vR 57 (jfr h_10 167 (jfr h_10 170 (jar h_10 (jfr h_10 10 r0) (ixn v_12))))), none, none]) (st' := []) (And.intro (Or.inl rfl) (And.intro (Or.inl rfl) (And.intro (Or.inl rfl) (And.intro (Or.inl rfl) (trivial))))) (trivial) ?_
        exact w_X1_execute_93 w
      · replace w := w.2 c_20
        refine jw_aload (pc' := 80) rfl rfl ?_
        refine jw_cI (st := []) (sa := [vR 57 (jfr h_10 167 (jfr h_10 170 (jar h_10 (jfr h_10 10 r0) (ixn v_12))))]) okX3_ends rfl rfl rfl rfl rfl rfl (jstp_static (sa := [vR 57 (jfr h_10 167 (jfr h_10 170 (jar h_10 (jfr h_10 10 r0) (ixn v_12))))]) (st := []) rfl rfl sX3_ends okX3_ends rfl rfl) w (fun v_23 h_21 _ _ w => ?_)
        refine jw_if_ne (tgt := 93) (pc' := 86) rfl rfl (fun c_24 => ?_) (fun c_24 => ?_)
        · replace w := w.1 c_24
          refine jw_gen (ls' := [some (vR 1 r0), none, some (vL v_6), none, none, some (vR 37 (jar h_10 (jfr h_10 10 r0) (ixn v_12))), some (vR 57 (jfr h_10 167 (jfr h_10 170 (jar h_10 (jfr h_10 10 r0) (ixn v_12))))), none, none]) (st' := []) (And.intro (Or.inl rfl) (And.intro (Or.inl rfl) (And.intro (Or.inl rfl) (And.intro (Or.inl rfl) (trivial))))) (trivial) ?_
          exact w_X1_execute_93 w
        · replace w := w.2 c_24
          refine jw_ldcwS (pc' := 89) rfl rfl rfl rfl ?_
          refine jw_cR (st := []) (sa := [vR 51 (jcs D 215)]) okX1_fault rfl rfl rfl rfl rfl rfl (jstp_static (sa := [vR 51 (jcs D 215)]) (st := []) rfl rfl sX1_fault okX1_fault rfl rfl) w (fun v_27 h_25 _ _ _ w => ?_)
          obtain ⟨g_28, w⟩ := w
          exact jw_athrow rfl rfl g_28 w
    · replace w := w.2 c_18
      refine jw_aload_n (pc' := 59) rfl rfl ?_
      refine jw_getR (pc' := 62) (F := 4) (t' := 112) rfl rfl rfl rfl rfl g_1 ?_
      refine jw_bipush (pc' := 64) (x := (73 : Int32)) rfl rfl ?_
      obtain ⟨g_29, w⟩ := w
      refine jw_cV (st := []) (sa := [vR 112 (jfr h_10 4 r0), vI (73 : Int32)]) okX2_plain rfl rfl rfl rfl rfl rfl (jstp_virtual (sa := [vI (73 : Int32)]) (st := []) (k := 0) rfl rfl sX2_plain okX2_plain g_29 (one112.k g_29) rfl rfl) w (fun h_30 _ _ w => ?_)
      exact jw_return rfl rfl w
  · replace w := w.2 c_13
    refine jw_ldcwS (pc' := 30) rfl rfl rfl rfl ?_
    refine jw_cR (st := []) (sa := [vR 51 (jcs D 214)]) okX1_fault rfl rfl rfl rfl rfl rfl (jstp_static (sa := [vR 51 (jcs D 214)]) (st := []) rfl rfl sX1_fault okX1_fault rfl rfl) w (fun v_35 h_33 _ _ _ w => ?_)
    obtain ⟨g_36, w⟩ := w
    exact jw_athrow rfl rfl g_36 w
def T_X1_execute (D : JD) (d : Nat) (Q : JO → JH → Prop) (r0 : Nat) (h : JH) : Prop := W_X1_execute_0 D d Q r0 h
theorem t_X1_execute {D : JD} {d : Nat} {Q : JO → JH → Prop} {r0 : Nat} {h : JH} (w : T_X1_execute D d Q r0 h) : cX1_execute D (d + 1) r0 h Q := by
  unfold T_X1_execute at w
  unfold cX1_execute
  exact w_X1_execute_0 w
def W_X1_spare_0 (D : JD) (d : Nat) (Q : JO → JH → Prop) (r0 : Nat) (h : JH) : Prop :=
  r0 ≠ 0 ∧ ((¬ (jfi h 16 r0) = 0 → ∀ h_3 : JH, h_3 = wfi h 16 r0 ((jfi h 16 r0) - (1 : Int32)) → ((jfr h_3 15 r0) ≠ 0 ∧ jin (jfi h_3 16 r0) (jln h_3 (jfr h_3 15 r0)) ∧ (Q (.inl (some (vR 7 (jar h_3 (jfr h_3 15 r0) (ixn (jfi h_3 16 r0)))))) h_3))) ∧ ((jfi h 16 r0) = 0 → ∀ (r_7 : Nat) (h_8 : JH), r_7 = jsz h + 1 → h_8 = nwo h 111 3 → (cX7_init D d r_7 h_8 (pV D h_8 (fun h_11 => Q (.inl (some (vR 7 r_7))) h_11) (jth Q)))))
theorem w_X1_spare_0 {D : JD} {d : Nat} {Q : JO → JH → Prop} {r0 : Nat} {h : JH} (w : W_X1_spare_0 D d Q r0 h) : JW D (d + 1) mX1_spare 0 [some (vR 1 r0)] [] h Q := by
  unfold W_X1_spare_0 at w
  refine jw_aload_n (pc' := 1) rfl rfl ?_
  obtain ⟨g_1, w⟩ := w
  refine jw_getI (pc' := 4) (F := 16) rfl rfl rfl rfl g_1 ?_
  refine jw_if_ne (tgt := 15) (pc' := 7) rfl rfl (fun c_2 => ?_) (fun c_2 => ?_)
  · replace w := w.1 c_2
    refine jw_aload_n (pc' := 16) rfl rfl ?_
    refine jw_dup (pc' := 17) rfl rfl ?_
    refine jw_getI (pc' := 20) (F := 16) rfl rfl rfl rfl g_1 ?_
    refine jw_iconst (pc' := 21) (x := (1 : Int32)) rfl rfl ?_
    refine jw_isub (pc' := 22) rfl ?_
    refine jw_putI' (pc' := 25) (F := 16) rfl rfl rfl (Or.inr rfl) (Or.inl rfl) rfl (rfl) (rfl) rfl g_1 (fun h_3 e_4 => ?_)
    replace w := w h_3 e_4
    refine jw_aload_n (pc' := 26) rfl rfl ?_
    refine jw_getR (pc' := 29) (F := 15) (t' := 126) rfl rfl rfl rfl rfl g_1 ?_
    refine jw_aload_n (pc' := 30) rfl rfl ?_
    refine jw_getI (pc' := 33) (F := 16) rfl rfl rfl rfl g_1 ?_
    obtain ⟨g_5, w⟩ := w
    obtain ⟨g_6, w⟩ := w
    refine jw_aald (pc' := 34) (t' := 7) rfl rfl rfl rfl g_5 g_6.ix g_6.2 ?_
    exact jw_areturn rfl rfl rfl rfl rfl w
  · replace w := w.2 c_2
    refine jw_new' (pc' := 10) (k := 111) (n := 3) rfl rfl rfl rfl rfl rfl rfl (fun r_7 h_8 e_9 e_10 => ?_)
    replace w := w r_7 h_8 e_9 e_10
    refine jw_dup (pc' := 11) rfl rfl ?_
    refine jw_cV (st := [vR 111 r_7]) (sa := [vR 111 r_7]) okX7_init rfl rfl rfl rfl rfl rfl (jstp_init (sa := []) (st := [vR 111 r_7]) rfl rfl sX7_init okX7_init (lw_g (jtb_mem (c := 2) (i := 17) rfl) rfl) (jnz e_9) rfl rfl) w (fun h_11 _ _ w => ?_)
    exact jw_areturn rfl rfl rfl rfl rfl w
def T_X1_spare (D : JD) (d : Nat) (Q : JO → JH → Prop) (r0 : Nat) (h : JH) : Prop := W_X1_spare_0 D d Q r0 h
theorem t_X1_spare {D : JD} {d : Nat} {Q : JO → JH → Prop} {r0 : Nat} {h : JH} (w : T_X1_spare D d Q r0 h) : cX1_spare D (d + 1) r0 h Q := by
  unfold T_X1_spare at w
  unfold cX1_spare
  exact w_X1_spare_0 w
def W_X1_rows_152 (D : JD) (d : Nat) (Q : JO → JH → Prop) (h : JH) : Prop :=
  Q (.inl none) h
theorem w_X1_rows_152 {D : JD} {d : Nat} {Q : JO → JH → Prop} {h : JH} (w : W_X1_rows_152 D d Q h) : JW D (d + 1) mX1_rows 152 [none, none, none, none, none, none, none, none] [] h Q := by
  unfold W_X1_rows_152 at w
  exact jw_return rfl rfl w
def W_X1_rows_96 (D : JD) (d : Nat) (Q : JO → JH → Prop) (r0 : Nat) (r1 : Nat) (h : JH) : Prop :=
  r1 ≠ 0 ∧ ((jfr h 172 r1) ≠ 0 ∧ (((jfi h 63 (jfr h 172 r1)) ≤ (jfi h 173 r1) → ∀ (r_4 : Nat) (h_5 : JH), r_4 = jsz h + 1 → h_5 = nwo h 11 4 → (cJ13_init D d r_4 h_5 (pV D h_5 (fun h_8 => cJ13_append_3 D d r_4 (jcs D 217) h_8 (pR D h_8 11 (fun v_13 h_11 => (jfr h_11 172 r1) ≠ 0 ∧ (v_13 ≠ 0 ∧ (cJ13_append_2 D d v_13 (jfi h_11 63 (jfr h_11 172 r1)) h_11 (pR D h_11 11 (fun v_18 h_16 => v_18 ≠ 0 ∧ (cJ13_toString D d v_18 h_16 (pR D h_16 64 (fun v_22 h_20 => r0 ≠ 0 ∧ (cX1_tag D d r0 v_22 h_20 (pV D h_20 (fun h_24 => W_X1_rows_152 D d Q h_24) (jth Q)))) (jth Q)))) (jth Q))))) (jth Q))) (jth Q)))) ∧ (¬ (jfi h 63 (jfr h 172 r1)) ≤ (jfi h 173 r1) → r0 ≠ 0 ∧ ((jfr h 4 r0) ≠ 0 ∧ (cX2_plain D d (jfr h 4 r0) (115 : Int32) h (pV D h (fun h_29 => W_X1_rows_152 D d Q h_29) (jth Q)))))))
theorem w_X1_rows_96 {D : JD} {d : Nat} {Q : JO → JH → Prop} {r0 : Nat} {r1 : Nat} {h : JH} (w : W_X1_rows_96 D d Q r0 r1 h) : JW D (d + 1) mX1_rows 96 [some (vR 1 r0), some (vR 37 r1), none, none, none, none, none, none] [] h Q := by
  unfold W_X1_rows_96 at w
  refine jw_aload_n (pc' := 97) rfl rfl ?_
  obtain ⟨g_1, w⟩ := w
  refine jw_getI (pc' := 100) (F := 173) rfl rfl rfl rfl g_1 ?_
  refine jw_aload_n (pc' := 101) rfl rfl ?_
  refine jw_getR (pc' := 104) (F := 172) (t' := 7) rfl rfl rfl rfl rfl g_1 ?_
  obtain ⟨g_2, w⟩ := w
  refine jw_getI (pc' := 107) (F := 63) rfl rfl rfl rfl g_2 ?_
  refine jw_icmp_ge (tgt := 122) (pc' := 110) rfl rfl (fun c_3 => ?_) (fun c_3 => ?_)
  · replace w := w.1 c_3
    refine jw_aload_n (pc' := 123) rfl rfl ?_
    refine jw_new' (pc' := 126) (k := 11) (n := 4) rfl rfl rfl rfl rfl rfl rfl (fun r_4 h_5 e_6 e_7 => ?_)
    replace w := w r_4 h_5 e_6 e_7
    refine jw_dup (pc' := 127) rfl rfl ?_
    refine jw_cV (st := [vR 11 r_4, vR 1 r0]) (sa := [vR 11 r_4]) okJ13_init rfl rfl rfl rfl rfl rfl (jstp_init (sa := []) (st := [vR 11 r_4, vR 1 r0]) rfl rfl sJ13_init okJ13_init (lw_g (jtb_mem (c := 3) (i := 134) rfl) rfl) (jnz e_6) rfl rfl) w (fun h_8 _ _ w => ?_)
    refine jw_ldcwS (pc' := 133) rfl rfl rfl rfl ?_
    refine jw_cR (st := [vR 1 r0]) (sa := [vR 11 r_4, vR 51 (jcs D 217)]) okJ13_append_3 rfl rfl rfl rfl rfl rfl (jstp_virtual (sa := [vR 51 (jcs D 217)]) (st := [vR 1 r0]) (k := 0) rfl rfl sJ13_append_3 okJ13_append_3 (jnz e_6) (one11.k (jnz e_6)) rfl rfl) w (fun v_13 h_11 _ _ _ w => ?_)
    refine jw_aload_n (pc' := 137) rfl rfl ?_
    refine jw_getR (pc' := 140) (F := 172) (t' := 7) rfl rfl rfl rfl rfl g_1 ?_
    obtain ⟨g_14, w⟩ := w
    refine jw_getI (pc' := 143) (F := 63) rfl rfl rfl rfl g_14 ?_
    obtain ⟨g_15, w⟩ := w
    refine jw_cR (st := [vR 1 r0]) (sa := [vR 11 v_13, vI (jfi h_11 63 (jfr h_11 172 r1))]) okJ13_append_2 rfl rfl rfl rfl rfl rfl (jstp_virtual (sa := [vI (jfi h_11 63 (jfr h_11 172 r1))]) (st := [vR 1 r0]) (k := 0) rfl rfl sJ13_append_2 okJ13_append_2 g_15 (one11.k g_15) rfl rfl) w (fun v_18 h_16 _ _ _ w => ?_)
    obtain ⟨g_19, w⟩ := w
    refine jw_cR (st := [vR 1 r0]) (sa := [vR 11 v_18]) okJ13_toString rfl rfl rfl rfl rfl rfl (jstp_virtual (sa := []) (st := [vR 1 r0]) (k := 0) rfl rfl sJ13_toString okJ13_toString g_19 (one11.k g_19) rfl rfl) w (fun v_22 h_20 _ _ _ w => ?_)
    obtain ⟨g_23, w⟩ := w
    refine jw_cV (st := []) (sa := [vR 1 r0, vR 64 v_22]) okX1_tag rfl rfl rfl rfl rfl rfl (jstp_virtual (sa := [vR 64 v_22]) (st := []) (k := 0) rfl rfl sX1_tag okX1_tag g_23 (one1.k g_23) rfl rfl) w (fun h_24 _ _ w => ?_)
    refine jw_gen (ls' := [none, none, none, none, none, none, none, none]) (st' := []) (trivial) (trivial) ?_
    exact w_X1_rows_152 w
  · replace w := w.2 c_3
    refine jw_aload_n (pc' := 111) rfl rfl ?_
    obtain ⟨g_27, w⟩ := w
    refine jw_getR (pc' := 114) (F := 4) (t' := 112) rfl rfl rfl rfl rfl g_27 ?_
    refine jw_bipush (pc' := 116) (x := (115 : Int32)) rfl rfl ?_
    obtain ⟨g_28, w⟩ := w
    refine jw_cV (st := []) (sa := [vR 112 (jfr h 4 r0), vI (115 : Int32)]) okX2_plain rfl rfl rfl rfl rfl rfl (jstp_virtual (sa := [vI (115 : Int32)]) (st := []) (k := 0) rfl rfl sX2_plain okX2_plain g_28 (one112.k g_28) rfl rfl) w (fun h_29 _ _ w => ?_)
    refine jw_goto (pc' := 152) rfl rfl ?_
    refine jw_gen (ls' := [none, none, none, none, none, none, none, none]) (st' := []) (trivial) (trivial) ?_
    exact w_X1_rows_152 w
def W_X1_rows_40 (D : JD) (d : Nat) (Q : JO → JH → Prop) (K40 : Nat → Nat → Int64 → Int64 → JH → Prop) (r0 : Nat) (r1 : Nat) (y4 : Int64) (y6 : Int64) (h : JH) : Prop :=
  (0 ≤ (lg_cmp y6 y4) → W_X1_rows_96 D d Q r0 r1 h) ∧ (¬ 0 ≤ (lg_cmp y6 y4) → r1 ≠ 0 ∧ ((jfr h 172 r1) ≠ 0 ∧ (((jfi h 63 (jfr h 172 r1)) ≤ (jfi h 173 r1) → W_X1_rows_96 D d Q r0 r1 h) ∧ (¬ (jfi h 63 (jfr h 172 r1)) ≤ (jfi h 173 r1) → r0 ≠ 0 ∧ (cX7_send D d (jfr h 172 r1) (jfi h 173 r1) (jfr h 4 r0) h (pV D h (fun h_6 => ∀ h_9 : JH, h_9 = wfi h_6 173 r1 ((jfi h_6 173 r1) + (1 : Int32)) → (K40 r0 r1 y4 (y6 + (1 : Int64)) h_9)) (jth Q)))))))
theorem w_X1_rows_40 {D : JD} {d : Nat} {Q : JO → JH → Prop} {K40 : Nat → Nat → Int64 → Int64 → JH → Prop} {r0 : Nat} {r1 : Nat} {y4 : Int64} {y6 : Int64} {h : JH} (hK40 : ∀ (r0 : Nat) (r1 : Nat) (y4 : Int64) (y6 : Int64) (h : JH), K40 r0 r1 y4 y6 h → JW D (d + 1) mX1_rows 40 [some (vR 1 r0), some (vR 37 r1), none, none, some (vL y4), none, some (vL y6), none] [] h Q) (w : W_X1_rows_40 D d Q K40 r0 r1 y4 y6 h) : JW D (d + 1) mX1_rows 40 [some (vR 1 r0), some (vR 37 r1), none, none, some (vL y4), none, some (vL y6), none] [] h Q := by
  unfold W_X1_rows_40 at w
  refine jw_lload (pc' := 42) rfl rfl ?_
  refine jw_lload (pc' := 44) rfl rfl ?_
  refine jw_lcmp (pc' := 45) rfl ?_
  refine jw_if_ge (tgt := 96) (pc' := 48) rfl rfl (fun c_1 => ?_) (fun c_1 => ?_)
  · replace w := w.1 c_1
    refine jw_gen (ls' := [some (vR 1 r0), some (vR 37 r1), none, none, none, none, none, none]) (st' := []) (And.intro (Or.inl rfl) (And.intro (Or.inl rfl) (trivial))) (trivial) ?_
    exact w_X1_rows_96 w
  · replace w := w.2 c_1
    refine jw_aload_n (pc' := 49) rfl rfl ?_
    obtain ⟨g_2, w⟩ := w
    refine jw_getI (pc' := 52) (F := 173) rfl rfl rfl rfl g_2 ?_
    refine jw_aload_n (pc' := 53) rfl rfl ?_
    refine jw_getR (pc' := 56) (F := 172) (t' := 7) rfl rfl rfl rfl rfl g_2 ?_
    obtain ⟨g_3, w⟩ := w
    refine jw_getI (pc' := 59) (F := 63) rfl rfl rfl rfl g_3 ?_
    refine jw_icmp_ge (tgt := 96) (pc' := 62) rfl rfl (fun c_4 => ?_) (fun c_4 => ?_)
    · replace w := w.1 c_4
      refine jw_gen (ls' := [some (vR 1 r0), some (vR 37 r1), none, none, none, none, none, none]) (st' := []) (And.intro (Or.inl rfl) (And.intro (Or.inl rfl) (trivial))) (trivial) ?_
      exact w_X1_rows_96 w
    · replace w := w.2 c_4
      refine jw_aload_n (pc' := 63) rfl rfl ?_
      refine jw_getR (pc' := 66) (F := 172) (t' := 7) rfl rfl rfl rfl rfl g_2 ?_
      refine jw_aload_n (pc' := 67) rfl rfl ?_
      refine jw_getI (pc' := 70) (F := 173) rfl rfl rfl rfl g_2 ?_
      refine jw_aload_n (pc' := 71) rfl rfl ?_
      obtain ⟨g_5, w⟩ := w
      refine jw_getR (pc' := 74) (F := 4) (t' := 112) rfl rfl rfl rfl rfl g_5 ?_
      refine jw_cV (st := []) (sa := [vR 7 (jfr h 172 r1), vI (jfi h 173 r1), vR 112 (jfr h 4 r0)]) okX7_send rfl rfl rfl rfl rfl rfl (jstp_virtual (sa := [vI (jfi h 173 r1), vR 112 (jfr h 4 r0)]) (st := []) (k := 0) rfl rfl sX7_send okX7_send g_3 (one7.k g_3) rfl rfl) w (fun h_6 _ _ w => ?_)
      refine jw_aload_n (pc' := 78) rfl rfl ?_
      refine jw_dup (pc' := 79) rfl rfl ?_
      refine jw_getI (pc' := 82) (F := 173) rfl rfl rfl rfl g_2 ?_
      refine jw_iconst (pc' := 83) (x := (1 : Int32)) rfl rfl ?_
      refine jw_iadd (pc' := 84) rfl ?_
      refine jw_putI' (pc' := 87) (F := 173) rfl rfl rfl (Or.inr rfl) (Or.inl rfl) rfl (rfl) (rfl) rfl g_2 (fun h_9 e_10 => ?_)
      replace w := w h_9 e_10
      refine jw_lload (pc' := 89) rfl rfl ?_
      refine jw_lconst (pc' := 90) (x := (1 : Int64)) rfl rfl ?_
      refine jw_ladd (pc' := 91) rfl ?_
      refine jw_lstore (pc' := 93) (ls' := [some (vR 1 r0), some (vR 37 r1), none, none, some (vL y4), none, some (vL (y6 + (1 : Int64))), none]) rfl (by decide) rfl ?_
      refine jw_goto (pc' := 40) rfl rfl ?_
      exact hK40 _ _ _ _ _ w
def L_X1_rows_40 (D : JD) (d : Nat) (Q : JO → JH → Prop) : Nat → Nat → Nat → Int64 → Int64 → JH → Prop
  | 0 => fun _ _ _ _ _ => False
  | n + 1 => fun r0 r1 y4 y6 h => W_X1_rows_40 D d Q (L_X1_rows_40 D d Q n) r0 r1 y4 y6 h
theorem l_X1_rows_40 {D : JD} {d : Nat} {Q : JO → JH → Prop} : ∀ (n : Nat) (r0 : Nat) (r1 : Nat) (y4 : Int64) (y6 : Int64) (h : JH), L_X1_rows_40 D d Q n r0 r1 y4 y6 h → JW D (d + 1) mX1_rows 40 [some (vR 1 r0), some (vR 37 r1), none, none, some (vL y4), none, some (vL y6), none] [] h Q := by
  intro n
  induction n with
  | zero => intro _ _ _ _ _ w; exact w.elim
  | succ n ih => intro _ _ _ _ h w; exact w_X1_rows_40 ih w
def W_X1_rows_35 (D : JD) (d : Nat) (Q : JO → JH → Prop) (r0 : Nat) (r1 : Nat) (t0 : Int64) (h : JH) : Prop :=
  ∃ n, L_X1_rows_40 D d Q n r0 r1 t0 (0 : Int64) h
theorem w_X1_rows_35 {D : JD} {d : Nat} {Q : JO → JH → Prop} {r0 : Nat} {r1 : Nat} {t0 : Int64} {h : JH} (w : W_X1_rows_35 D d Q r0 r1 t0 h) : JW D (d + 1) mX1_rows 35 [some (vR 1 r0), some (vR 37 r1), none, none, none, none, none, none] [vL t0] h Q := by
  unfold W_X1_rows_35 at w
  refine jw_lstore (pc' := 37) (ls' := [some (vR 1 r0), some (vR 37 r1), none, none, some (vL t0), none, none, none]) rfl (by decide) rfl ?_
  refine jw_lconst (pc' := 38) (x := (0 : Int64)) rfl rfl ?_
  refine jw_lstore (pc' := 40) (ls' := [some (vR 1 r0), some (vR 37 r1), none, none, some (vL t0), none, some (vL (0 : Int64)), none]) rfl (by decide) rfl ?_
  obtain ⟨n, w⟩ := w
  exact l_X1_rows_40 n _ _ _ _ _ w
def W_X1_rows_0 (D : JD) (d : Nat) (Q : JO → JH → Prop) (r0 : Nat) (r1 : Nat) (y2 : Int64) (h : JH) : Prop :=
  (0 < (lg_cmp y2 (0 : Int64)) → r1 ≠ 0 ∧ ((jfr h 172 r1) ≠ 0 ∧ (cJ15_min_2 D d y2 ((Int32.toInt64 (jfi h 63 (jfr h 172 r1))) - (Int32.toInt64 (jfi h 173 r1))) h (pL D h (fun v_5 h_4 => W_X1_rows_35 D d Q r0 r1 v_5 h_4) (jth Q))))) ∧ (¬ 0 < (lg_cmp y2 (0 : Int64)) → r1 ≠ 0 ∧ ((jfr h 172 r1) ≠ 0 ∧ (W_X1_rows_35 D d Q r0 r1 (Int32.toInt64 (jfi h 63 (jfr h 172 r1))) h)))
theorem w_X1_rows_0 {D : JD} {d : Nat} {Q : JO → JH → Prop} {r0 : Nat} {r1 : Nat} {y2 : Int64} {h : JH} (w : W_X1_rows_0 D d Q r0 r1 y2 h) : JW D (d + 1) mX1_rows 0 [some (vR 1 r0), some (vR 37 r1), some (vL y2), none, none, none, none, none] [] h Q := by
  unfold W_X1_rows_0 at w
  refine jw_lload_n (pc' := 1) rfl rfl ?_
  refine jw_lconst (pc' := 2) (x := (0 : Int64)) rfl rfl ?_
  refine jw_lcmp (pc' := 3) rfl ?_
  refine jw_if_gt (tgt := 17) (pc' := 6) rfl rfl (fun c_1 => ?_) (fun c_1 => ?_)
  · replace w := w.1 c_1
    refine jw_lload_n (pc' := 18) rfl rfl ?_
    refine jw_aload_n (pc' := 19) rfl rfl ?_
    obtain ⟨g_2, w⟩ := w
    refine jw_getR (pc' := 22) (F := 172) (t' := 7) rfl rfl rfl rfl rfl g_2 ?_
    obtain ⟨g_3, w⟩ := w
    refine jw_getI (pc' := 25) (F := 63) rfl rfl rfl rfl g_3 ?_
    refine jw_i2l (pc' := 26) rfl ?_
    refine jw_aload_n (pc' := 27) rfl rfl ?_
    refine jw_getI (pc' := 30) (F := 173) rfl rfl rfl rfl g_2 ?_
    refine jw_i2l (pc' := 31) rfl ?_
    refine jw_lsub (pc' := 32) rfl ?_
    refine jw_cL (st := []) (sa := [vL y2, vL ((Int32.toInt64 (jfi h 63 (jfr h 172 r1))) - (Int32.toInt64 (jfi h 173 r1)))]) okJ15_min_2 rfl rfl rfl rfl rfl rfl (jstp_static (sa := [vL y2, vL ((Int32.toInt64 (jfi h 63 (jfr h 172 r1))) - (Int32.toInt64 (jfi h 173 r1)))]) (st := []) rfl rfl sJ15_min_2 okJ15_min_2 rfl rfl) w (fun v_5 h_4 _ _ w => ?_)
    refine jw_gen (ls' := [some (vR 1 r0), some (vR 37 r1), none, none, none, none, none, none]) (st' := [vL v_5]) (And.intro (Or.inl rfl) (And.intro (Or.inl rfl) (trivial))) (And.intro (Or.inl rfl) (trivial)) ?_
    exact w_X1_rows_35 w
  · replace w := w.2 c_1
    refine jw_aload_n (pc' := 7) rfl rfl ?_
    obtain ⟨g_6, w⟩ := w
    refine jw_getR (pc' := 10) (F := 172) (t' := 7) rfl rfl rfl rfl rfl g_6 ?_
    obtain ⟨g_7, w⟩ := w
    refine jw_getI (pc' := 13) (F := 63) rfl rfl rfl rfl g_7 ?_
    refine jw_i2l (pc' := 14) rfl ?_
    refine jw_goto (pc' := 35) rfl rfl ?_
    refine jw_gen (ls' := [some (vR 1 r0), some (vR 37 r1), none, none, none, none, none, none]) (st' := [vL (Int32.toInt64 (jfi h 63 (jfr h 172 r1)))]) (And.intro (Or.inl rfl) (And.intro (Or.inl rfl) (trivial))) (And.intro (Or.inl rfl) (trivial)) ?_
    exact w_X1_rows_35 w
def T_X1_rows (D : JD) (d : Nat) (Q : JO → JH → Prop) (r0 : Nat) (r1 : Nat) (y2 : Int64) (h : JH) : Prop := W_X1_rows_0 D d Q r0 r1 y2 h
theorem t_X1_rows {D : JD} {d : Nat} {Q : JO → JH → Prop} {r0 : Nat} {r1 : Nat} {y2 : Int64} {h : JH} (w : T_X1_rows D d Q r0 r1 y2 h) : cX1_rows D (d + 1) r0 r1 y2 h Q := by
  unfold T_X1_rows at w
  unfold cX1_rows
  exact w_X1_rows_0 w
