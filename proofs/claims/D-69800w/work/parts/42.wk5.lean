/-! what each method needs (printed by tools/gen_wp.py) -/
set_option maxRecDepth 4000
def W_X34_check_8 (D : JD) (d : Nat) (Q : JO → JH → Prop) (r0 : Nat) (q0 : Nat) (h : JH) : Prop :=
  r0 ≠ 0 ∧ (Q (.inl (some (vR 52 (jfr h 109 r0)))) h)
theorem w_X34_check_8 {D : JD} {d : Nat} {Q : JO → JH → Prop} {r0 : Nat} {q0 : Nat} {h : JH} (w : W_X34_check_8 D d Q r0 q0 h) : JW D (d + 1) mX34_check 8 [some (vR 28 r0), none] [vR 52 q0] h Q := by
  unfold W_X34_check_8 at w
  refine jw_pop (pc' := 9) rfl rfl ?_
  refine jw_aload_n (pc' := 10) rfl rfl ?_
  obtain ⟨g_1, w⟩ := w
  refine jw_getR (pc' := 13) (F := 109) (t' := 52) rfl rfl rfl rfl rfl g_1 ?_
  exact jw_areturn rfl rfl rfl rfl rfl w
def W_X34_check_0 (D : JD) (d : Nat) (Q : JO → JH → Prop) (r0 : Nat) (r1 : Nat) (h : JH) : Prop :=
  r0 ≠ 0 ∧ ((jfr h 126 r0) ≠ 0 ∧ (v55_check D d (jfr h 126 r0) r1 h (pR D h 52 (fun v_5 h_3 => W_X34_check_8 D d Q r0 v_5 h_3) (jth Q))))
theorem w_X34_check_0 {D : JD} {d : Nat} {Q : JO → JH → Prop} {r0 : Nat} {r1 : Nat} {h : JH} (w : W_X34_check_0 D d Q r0 r1 h) : JW D (d + 1) mX34_check 0 [some (vR 28 r0), some (vR 6 r1)] [] h Q := by
  unfold W_X34_check_0 at w
  refine jw_aload_n (pc' := 1) rfl rfl ?_
  obtain ⟨g_1, w⟩ := w
  refine jw_getR (pc' := 4) (F := 126) (t' := 55) rfl rfl rfl rfl rfl g_1 ?_
  refine jw_aload_n (pc' := 5) rfl rfl ?_
  obtain ⟨g_2, w⟩ := w
  refine JW.inv (fun hI => JW.oks (fun ho => ?_))
  have hkd := und55.k hI (ho (vR 55 (jfr h 126 r0)) (by simp)) g_2
  simp only [List.mem_cons, List.not_mem_nil, or_false] at hkd
  clear ho hI
  rcases hkd with e_6 | e_6 | e_6 | e_6 | e_6 | e_6 | e_6 | e_6 | e_6 | e_6
  · refine jw_gen (ls' := _) (st' := [vR 6 r1, vR 20 (jfr h 126 r0)]) (jgl_rf _ _) (And.intro (Or.inl rfl) (And.intro (Or.inr ⟨_, _, _, rfl, rfl, Or.inr (Or.inr (by rw [e_6]; rfl))⟩) (jgs_rf _ _))) ?_
    refine jw_cR (st := []) (sa := [vR 20 (jfr h 126 r0), vR 6 r1]) okX25_check rfl rfl rfl rfl rfl rfl (jstp_up (sa := [vR 6 r1]) (st := []) rfl (lw_g (jtb_mem (c := 10) (i := 81) rfl) rfl) um18 okX25_check g_2 (fun _ _ => by rw [e_6]; exact ⟨rfl, rfl⟩) rfl rfl) (w.1 e_6) (fun v_5 h_3 _ _ _ w => ?_)
    refine jw_gen (ls' := [some (vR 28 r0), none]) (st' := [vR 52 v_5]) (And.intro (Or.inl rfl) (trivial)) (And.intro (Or.inl rfl) (trivial)) ?_
    exact w_X34_check_8 w
  · refine jw_gen (ls' := _) (st' := [vR 6 r1, vR 21 (jfr h 126 r0)]) (jgl_rf _ _) (And.intro (Or.inl rfl) (And.intro (Or.inr ⟨_, _, _, rfl, rfl, Or.inr (Or.inr (by rw [e_6]; rfl))⟩) (jgs_rf _ _))) ?_
    refine jw_cR (st := []) (sa := [vR 21 (jfr h 126 r0), vR 6 r1]) okX27_check rfl rfl rfl rfl rfl rfl (jstp_up (sa := [vR 6 r1]) (st := []) rfl (lw_g (jtb_mem (c := 10) (i := 81) rfl) rfl) um19 okX27_check g_2 (fun _ _ => by rw [e_6]; exact ⟨rfl, rfl⟩) rfl rfl) (w.2.1 e_6) (fun v_5 h_3 _ _ _ w => ?_)
    refine jw_gen (ls' := [some (vR 28 r0), none]) (st' := [vR 52 v_5]) (And.intro (Or.inl rfl) (trivial)) (And.intro (Or.inl rfl) (trivial)) ?_
    exact w_X34_check_8 w
  · refine jw_gen (ls' := _) (st' := [vR 6 r1, vR 22 (jfr h 126 r0)]) (jgl_rf _ _) (And.intro (Or.inl rfl) (And.intro (Or.inr ⟨_, _, _, rfl, rfl, Or.inr (Or.inr (by rw [e_6]; rfl))⟩) (jgs_rf _ _))) ?_
    refine jw_cR (st := []) (sa := [vR 22 (jfr h 126 r0), vR 6 r1]) okX28_check rfl rfl rfl rfl rfl rfl (jstp_up (sa := [vR 6 r1]) (st := []) rfl (lw_g (jtb_mem (c := 10) (i := 81) rfl) rfl) um20 okX28_check g_2 (fun _ _ => by rw [e_6]; exact ⟨rfl, rfl⟩) rfl rfl) (w.2.2.1 e_6) (fun v_5 h_3 _ _ _ w => ?_)
    refine jw_gen (ls' := [some (vR 28 r0), none]) (st' := [vR 52 v_5]) (And.intro (Or.inl rfl) (trivial)) (And.intro (Or.inl rfl) (trivial)) ?_
    exact w_X34_check_8 w
  · refine jw_gen (ls' := _) (st' := [vR 6 r1, vR 23 (jfr h 126 r0)]) (jgl_rf _ _) (And.intro (Or.inl rfl) (And.intro (Or.inr ⟨_, _, _, rfl, rfl, Or.inr (Or.inr (by rw [e_6]; rfl))⟩) (jgs_rf _ _))) ?_
    refine jw_cR (st := []) (sa := [vR 23 (jfr h 126 r0), vR 6 r1]) okX29_check rfl rfl rfl rfl rfl rfl (jstp_up (sa := [vR 6 r1]) (st := []) rfl (lw_g (jtb_mem (c := 10) (i := 81) rfl) rfl) um21 okX29_check g_2 (fun _ _ => by rw [e_6]; exact ⟨rfl, rfl⟩) rfl rfl) (w.2.2.2.1 e_6) (fun v_5 h_3 _ _ _ w => ?_)
    refine jw_gen (ls' := [some (vR 28 r0), none]) (st' := [vR 52 v_5]) (And.intro (Or.inl rfl) (trivial)) (And.intro (Or.inl rfl) (trivial)) ?_
    exact w_X34_check_8 w
  · refine jw_gen (ls' := _) (st' := [vR 6 r1, vR 24 (jfr h 126 r0)]) (jgl_rf _ _) (And.intro (Or.inl rfl) (And.intro (Or.inr ⟨_, _, _, rfl, rfl, Or.inr (Or.inr (by rw [e_6]; rfl))⟩) (jgs_rf _ _))) ?_
    refine jw_cR (st := []) (sa := [vR 24 (jfr h 126 r0), vR 6 r1]) okX30_check rfl rfl rfl rfl rfl rfl (jstp_up (sa := [vR 6 r1]) (st := []) rfl (lw_g (jtb_mem (c := 10) (i := 81) rfl) rfl) um22 okX30_check g_2 (fun _ _ => by rw [e_6]; exact ⟨rfl, rfl⟩) rfl rfl) (w.2.2.2.2.1 e_6) (fun v_5 h_3 _ _ _ w => ?_)
    refine jw_gen (ls' := [some (vR 28 r0), none]) (st' := [vR 52 v_5]) (And.intro (Or.inl rfl) (trivial)) (And.intro (Or.inl rfl) (trivial)) ?_
    exact w_X34_check_8 w
  · refine jw_gen (ls' := _) (st' := [vR 6 r1, vR 25 (jfr h 126 r0)]) (jgl_rf _ _) (And.intro (Or.inl rfl) (And.intro (Or.inr ⟨_, _, _, rfl, rfl, Or.inr (Or.inr (by rw [e_6]; rfl))⟩) (jgs_rf _ _))) ?_
    refine jw_cR (st := []) (sa := [vR 25 (jfr h 126 r0), vR 6 r1]) okX31_check rfl rfl rfl rfl rfl rfl (jstp_up (sa := [vR 6 r1]) (st := []) rfl (lw_g (jtb_mem (c := 10) (i := 81) rfl) rfl) um23 okX31_check g_2 (fun _ _ => by rw [e_6]; exact ⟨rfl, rfl⟩) rfl rfl) (w.2.2.2.2.2.1 e_6) (fun v_5 h_3 _ _ _ w => ?_)
    refine jw_gen (ls' := [some (vR 28 r0), none]) (st' := [vR 52 v_5]) (And.intro (Or.inl rfl) (trivial)) (And.intro (Or.inl rfl) (trivial)) ?_
    exact w_X34_check_8 w
  · refine jw_gen (ls' := _) (st' := [vR 6 r1, vR 26 (jfr h 126 r0)]) (jgl_rf _ _) (And.intro (Or.inl rfl) (And.intro (Or.inr ⟨_, _, _, rfl, rfl, Or.inr (Or.inr (by rw [e_6]; rfl))⟩) (jgs_rf _ _))) ?_
    refine jw_cR (st := []) (sa := [vR 26 (jfr h 126 r0), vR 6 r1]) okX32_check rfl rfl rfl rfl rfl rfl (jstp_up (sa := [vR 6 r1]) (st := []) rfl (lw_g (jtb_mem (c := 10) (i := 81) rfl) rfl) um24 okX32_check g_2 (fun _ _ => by rw [e_6]; exact ⟨rfl, rfl⟩) rfl rfl) (w.2.2.2.2.2.2.1 e_6) (fun v_5 h_3 _ _ _ w => ?_)
    refine jw_gen (ls' := [some (vR 28 r0), none]) (st' := [vR 52 v_5]) (And.intro (Or.inl rfl) (trivial)) (And.intro (Or.inl rfl) (trivial)) ?_
    exact w_X34_check_8 w
  · refine jw_gen (ls' := _) (st' := [vR 6 r1, vR 27 (jfr h 126 r0)]) (jgl_rf _ _) (And.intro (Or.inl rfl) (And.intro (Or.inr ⟨_, _, _, rfl, rfl, Or.inr (Or.inr (by rw [e_6]; rfl))⟩) (jgs_rf _ _))) ?_
    refine jw_cR (st := []) (sa := [vR 27 (jfr h 126 r0), vR 6 r1]) okX33_check rfl rfl rfl rfl rfl rfl (jstp_up (sa := [vR 6 r1]) (st := []) rfl (lw_g (jtb_mem (c := 10) (i := 81) rfl) rfl) um25 okX33_check g_2 (fun _ _ => by rw [e_6]; exact ⟨rfl, rfl⟩) rfl rfl) (w.2.2.2.2.2.2.2.1 e_6) (fun v_5 h_3 _ _ _ w => ?_)
    refine jw_gen (ls' := [some (vR 28 r0), none]) (st' := [vR 52 v_5]) (And.intro (Or.inl rfl) (trivial)) (And.intro (Or.inl rfl) (trivial)) ?_
    exact w_X34_check_8 w
  · refine jw_gen (ls' := _) (st' := [vR 6 r1, vR 28 (jfr h 126 r0)]) (jgl_rf _ _) (And.intro (Or.inl rfl) (And.intro (Or.inr ⟨_, _, _, rfl, rfl, Or.inr (Or.inr (by rw [e_6]; rfl))⟩) (jgs_rf _ _))) ?_
    refine jw_cR (st := []) (sa := [vR 28 (jfr h 126 r0), vR 6 r1]) okX34_check rfl rfl rfl rfl rfl rfl (jstp_up (sa := [vR 6 r1]) (st := []) rfl (lw_g (jtb_mem (c := 10) (i := 81) rfl) rfl) um26 okX34_check g_2 (fun _ _ => by rw [e_6]; exact ⟨rfl, rfl⟩) rfl rfl) (w.2.2.2.2.2.2.2.2.1 e_6) (fun v_5 h_3 _ _ _ w => ?_)
    refine jw_gen (ls' := [some (vR 28 r0), none]) (st' := [vR 52 v_5]) (And.intro (Or.inl rfl) (trivial)) (And.intro (Or.inl rfl) (trivial)) ?_
    exact w_X34_check_8 w
  · refine jw_gen (ls' := _) (st' := [vR 6 r1, vR 29 (jfr h 126 r0)]) (jgl_rf _ _) (And.intro (Or.inl rfl) (And.intro (Or.inr ⟨_, _, _, rfl, rfl, Or.inr (Or.inr (by rw [e_6]; rfl))⟩) (jgs_rf _ _))) ?_
    refine jw_cR (st := []) (sa := [vR 29 (jfr h 126 r0), vR 6 r1]) okX35_check rfl rfl rfl rfl rfl rfl (jstp_up (sa := [vR 6 r1]) (st := []) rfl (lw_g (jtb_mem (c := 10) (i := 81) rfl) rfl) um27 okX35_check g_2 (fun _ _ => by rw [e_6]; exact ⟨rfl, rfl⟩) rfl rfl) (w.2.2.2.2.2.2.2.2.2 e_6) (fun v_5 h_3 _ _ _ w => ?_)
    refine jw_gen (ls' := [some (vR 28 r0), none]) (st' := [vR 52 v_5]) (And.intro (Or.inl rfl) (trivial)) (And.intro (Or.inl rfl) (trivial)) ?_
    exact w_X34_check_8 w
def T_X34_check (D : JD) (d : Nat) (Q : JO → JH → Prop) (r0 : Nat) (r1 : Nat) (h : JH) : Prop := W_X34_check_0 D d Q r0 r1 h
theorem t_X34_check {D : JD} {d : Nat} {Q : JO → JH → Prop} {r0 : Nat} {r1 : Nat} {h : JH} (w : T_X34_check D d Q r0 r1 h) : cX34_check D (d + 1) r0 r1 h Q := by
  unfold T_X34_check at w
  unfold cX34_check
  exact w_X34_check_0 w
def W_X34_count_0 (D : JD) (d : Nat) (Q : JO → JH → Prop) (h : JH) : Prop :=
  Q (.inl (some (vI (1 : Int32)))) h
theorem w_X34_count_0 {D : JD} {d : Nat} {Q : JO → JH → Prop} {h : JH} (w : W_X34_count_0 D d Q h) : JW D (d + 1) mX34_count 0 [none] [] h Q := by
  unfold W_X34_count_0 at w
  refine jw_iconst (pc' := 1) (x := (1 : Int32)) rfl rfl ?_
  exact jw_ireturn rfl rfl (rfl) w
def T_X34_count (D : JD) (d : Nat) (Q : JO → JH → Prop) (r0 : Nat) (h : JH) : Prop := W_X34_count_0 D d Q h
theorem t_X34_count {D : JD} {d : Nat} {Q : JO → JH → Prop} {r0 : Nat} {h : JH} (w : T_X34_count D d Q r0 h) : cX34_count D (d + 1) r0 h Q := by
  unfold T_X34_count at w
  unfold cX34_count
  refine jw_gen (ls' := [none]) (st' := []) (trivial) (trivial) ?_
  exact w_X34_count_0 w
def W_X34_part_0 (D : JD) (d : Nat) (Q : JO → JH → Prop) (r0 : Nat) (h : JH) : Prop :=
  r0 ≠ 0 ∧ (Q (.inl (some (vR 55 (jfr h 126 r0)))) h)
theorem w_X34_part_0 {D : JD} {d : Nat} {Q : JO → JH → Prop} {r0 : Nat} {h : JH} (w : W_X34_part_0 D d Q r0 h) : JW D (d + 1) mX34_part 0 [some (vR 28 r0), none] [] h Q := by
  unfold W_X34_part_0 at w
  refine jw_aload_n (pc' := 1) rfl rfl ?_
  obtain ⟨g_1, w⟩ := w
  refine jw_getR (pc' := 4) (F := 126) (t' := 55) rfl rfl rfl rfl rfl g_1 ?_
  exact jw_areturn rfl rfl rfl rfl rfl w
def T_X34_part (D : JD) (d : Nat) (Q : JO → JH → Prop) (r0 : Nat) (x1 : Int32) (h : JH) : Prop := W_X34_part_0 D d Q r0 h
theorem t_X34_part {D : JD} {d : Nat} {Q : JO → JH → Prop} {r0 : Nat} {x1 : Int32} {h : JH} (w : T_X34_part D d Q r0 x1 h) : cX34_part D (d + 1) r0 x1 h Q := by
  unfold T_X34_part at w
  unfold cX34_part
  refine jw_gen (ls' := [some (vR 28 r0), none]) (st' := []) (And.intro (Or.inl rfl) (trivial)) (trivial) ?_
  exact w_X34_part_0 w
def W_X34_like_34 (D : JD) (d : Nat) (Q : JO → JH → Prop) (s0 : Int32) (h : JH) : Prop :=
  jbo s0 ∧ (Q (.inl (some (vI s0))) h)
theorem w_X34_like_34 {D : JD} {d : Nat} {Q : JO → JH → Prop} {s0 : Int32} {h : JH} (w : W_X34_like_34 D d Q s0 h) : JW D (d + 1) mX34_like 34 [none, none] [vI s0] h Q := by
  unfold W_X34_like_34 at w
  obtain ⟨g_1, w⟩ := w
  exact jw_ireturn rfl rfl (g_1.nr) w
def W_X34_like_33 (D : JD) (d : Nat) (Q : JO → JH → Prop) (h : JH) : Prop :=
  W_X34_like_34 D d Q (0 : Int32) h
theorem w_X34_like_33 {D : JD} {d : Nat} {Q : JO → JH → Prop} {h : JH} (w : W_X34_like_33 D d Q h) : JW D (d + 1) mX34_like 33 [none, none] [] h Q := by
  unfold W_X34_like_33 at w
  refine jw_iconst (pc' := 34) (x := (0 : Int32)) rfl rfl ?_
  exact w_X34_like_34 w
def W_X34_like_0 (D : JD) (d : Nat) (Q : JO → JH → Prop) (r0 : Nat) (r1 : Nat) (h : JH) : Prop :=
  ((r1 ≠ 0 ∧ jkd h r1 = 28) → (r1 = 0 ∨ jkd h r1 = 28) ∧ (r1 ≠ 0 ∧ (r0 ≠ 0 ∧ ((¬ (jfi h 127 r1) = (jfi h 127 r0) → W_X34_like_33 D d Q h) ∧ ((jfi h 127 r1) = (jfi h 127 r0) → cX24_likeParts D d r0 r1 h (pI D h (fun v_9 h_7 => (v_9 = 0 → W_X34_like_33 D d Q h_7) ∧ (¬ v_9 = 0 → W_X34_like_34 D d Q (1 : Int32) h_7)) (jth Q))))))) ∧ (¬ (r1 ≠ 0 ∧ jkd h r1 = 28) → W_X34_like_33 D d Q h)
theorem w_X34_like_0 {D : JD} {d : Nat} {Q : JO → JH → Prop} {r0 : Nat} {r1 : Nat} {h : JH} (w : W_X34_like_0 D d Q r0 r1 h) : JW D (d + 1) mX34_like 0 [some (vR 28 r0), some (vR 55 r1)] [] h Q := by
  unfold W_X34_like_0 at w
  refine jw_aload_n (pc' := 1) rfl rfl ?_
  refine jw_inst (pc' := 4) (t := 55) (kt := 28) rfl rfl rfl rfl (by decide +kernel) (fun c_1 => ?_) (fun c_1 => ?_)
  · replace w := w.1 c_1
    refine jw_if_eq (tgt := 33) (pc' := 7) rfl rfl (fun c_2 => absurd c_2 (by decide)) (fun _ => ?_)
    refine jw_aload_n (pc' := 8) rfl rfl ?_
    obtain ⟨g_3, w⟩ := w
    refine jw_cast (pc' := 11) (t2 := 28) rfl rfl rfl rfl g_3 ?_
    obtain ⟨g_4, w⟩ := w
    refine jw_getI (pc' := 14) (F := 127) rfl rfl rfl rfl g_4 ?_
    refine jw_aload_n (pc' := 15) rfl rfl ?_
    obtain ⟨g_5, w⟩ := w
    refine jw_getI (pc' := 18) (F := 127) rfl rfl rfl rfl g_5 ?_
    refine jw_icmp_ne (tgt := 33) (pc' := 21) rfl rfl (fun c_6 => ?_) (fun c_6 => ?_)
    · replace w := w.1 c_6
      refine jw_gen (ls' := [none, none]) (st' := []) (trivial) (trivial) ?_
      exact w_X34_like_33 w
    · replace w := w.2 c_6
      refine jw_aload_n (pc' := 22) rfl rfl ?_
      refine jw_aload_n (pc' := 23) rfl rfl ?_
      refine jw_cI (st := []) (sa := [vR 28 r0, vR 55 r1]) okX24_likeParts rfl rfl rfl rfl rfl rfl (jstp_up (sa := [vR 55 r1]) (st := []) rfl (lw_g (jtb_mem (c := 11) (i := 72) rfl) rfl) um113 okX24_likeParts g_5 (one28.k g_5) rfl rfl) w (fun v_9 h_7 _ _ w => ?_)
      refine jw_if_eq (tgt := 33) (pc' := 29) rfl rfl (fun c_10 => ?_) (fun c_10 => ?_)
      · replace w := w.1 c_10
        refine jw_gen (ls' := [none, none]) (st' := []) (trivial) (trivial) ?_
        exact w_X34_like_33 w
      · replace w := w.2 c_10
        refine jw_iconst (pc' := 30) (x := (1 : Int32)) rfl rfl ?_
        refine jw_goto (pc' := 34) rfl rfl ?_
        refine jw_gen (ls' := [none, none]) (st' := [vI (1 : Int32)]) (trivial) (And.intro (Or.inl rfl) (trivial)) ?_
        exact w_X34_like_34 w
  · replace w := w.2 c_1
    refine jw_if_eq (tgt := 33) (pc' := 7) rfl rfl (fun _ => ?_) (fun c_11 => absurd c_11 (by decide))
    refine jw_gen (ls' := [none, none]) (st' := []) (trivial) (trivial) ?_
    exact w_X34_like_33 w
def T_X34_like (D : JD) (d : Nat) (Q : JO → JH → Prop) (r0 : Nat) (r1 : Nat) (h : JH) : Prop := W_X34_like_0 D d Q r0 r1 h
theorem t_X34_like {D : JD} {d : Nat} {Q : JO → JH → Prop} {r0 : Nat} {r1 : Nat} {h : JH} (w : T_X34_like D d Q r0 r1 h) : cX34_like D (d + 1) r0 r1 h Q := by
  unfold T_X34_like at w
  unfold cX34_like
  exact w_X34_like_0 w
def W_X34_at_27 (D : JD) (d : Nat) (Q : JO → JH → Prop) (q0 : Nat) (s1 : Int32) (h : JH) : Prop :=
  q0 ≠ 0 ∧ (cX14_truth D d q0 s1 h (pR D h 8 (fun v_4 h_2 => Q (.inl (some (vR 8 v_4))) h_2) (jth Q)))
theorem w_X34_at_27 {D : JD} {d : Nat} {Q : JO → JH → Prop} {q0 : Nat} {s1 : Int32} {h : JH} (w : W_X34_at_27 D d Q q0 s1 h) : JW D (d + 1) mX34_at 27 [none, none] [vI s1, vR 98 q0] h Q := by
  unfold W_X34_at_27 at w
  obtain ⟨g_1, w⟩ := w
  refine jw_cR (st := []) (sa := [vR 98 q0, vI s1]) okX14_truth rfl rfl rfl rfl rfl rfl (jstp_virtual (sa := [vI s1]) (st := []) (k := 0) rfl rfl sX14_truth okX14_truth g_1 (one98.k g_1) rfl rfl) w (fun v_4 h_2 _ _ _ w => ?_)
  exact jw_areturn rfl rfl rfl rfl rfl w
def W_X34_at_12 (D : JD) (d : Nat) (Q : JO → JH → Prop) (r0 : Nat) (q0 : Nat) (q1 : Nat) (h : JH) : Prop :=
  q1 ≠ 0 ∧ (cX14_isEmpty D d q1 h (pI D h (fun v_4 h_2 => r0 ≠ 0 ∧ ((v_4 = (jfi h_2 127 r0) → W_X34_at_27 D d Q q0 (0 : Int32) h_2) ∧ (¬ v_4 = (jfi h_2 127 r0) → W_X34_at_27 D d Q q0 (1 : Int32) h_2))) (jth Q)))
theorem w_X34_at_12 {D : JD} {d : Nat} {Q : JO → JH → Prop} {r0 : Nat} {q0 : Nat} {q1 : Nat} {h : JH} (w : W_X34_at_12 D d Q r0 q0 q1 h) : JW D (d + 1) mX34_at 12 [some (vR 28 r0), none] [vR 8 q1, vR 98 q0] h Q := by
  unfold W_X34_at_12 at w
  obtain ⟨g_1, w⟩ := w
  refine jw_cI (st := [vR 98 q0]) (sa := [vR 8 q1]) okX14_isEmpty rfl rfl rfl rfl rfl rfl (jstp_virtual (sa := []) (st := [vR 98 q0]) (k := 0) rfl rfl sX14_isEmpty okX14_isEmpty g_1 (one8.k g_1) rfl rfl) w (fun v_4 h_2 _ _ w => ?_)
  refine jw_aload_n (pc' := 16) rfl rfl ?_
  obtain ⟨g_5, w⟩ := w
  refine jw_getI (pc' := 19) (F := 127) rfl rfl rfl rfl g_5 ?_
  refine jw_icmp_eq (tgt := 26) (pc' := 22) rfl rfl (fun c_6 => ?_) (fun c_6 => ?_)
  · replace w := w.1 c_6
    refine jw_iconst (pc' := 27) (x := (0 : Int32)) rfl rfl ?_
    refine jw_gen (ls' := [none, none]) (st' := [vI (0 : Int32), vR 98 q0]) (trivial) (And.intro (Or.inl rfl) (And.intro (Or.inl rfl) (trivial))) ?_
    exact w_X34_at_27 w
  · replace w := w.2 c_6
    refine jw_iconst (pc' := 23) (x := (1 : Int32)) rfl rfl ?_
    refine jw_goto (pc' := 27) rfl rfl ?_
    refine jw_gen (ls' := [none, none]) (st' := [vI (1 : Int32), vR 98 q0]) (trivial) (And.intro (Or.inl rfl) (And.intro (Or.inl rfl) (trivial))) ?_
    exact w_X34_at_27 w
def W_X34_at_0 (D : JD) (d : Nat) (Q : JO → JH → Prop) (r0 : Nat) (r1 : Nat) (h : JH) : Prop :=
  r0 ≠ 0 ∧ ((jfr h 126 r0) ≠ 0 ∧ (v55_at D d (jfr h 126 r0) r1 h (pR D h 8 (fun v_5 h_3 => W_X34_at_12 D d Q r0 (jfr h 108 r0) v_5 h_3) (jth Q))))
theorem w_X34_at_0 {D : JD} {d : Nat} {Q : JO → JH → Prop} {r0 : Nat} {r1 : Nat} {h : JH} (w : W_X34_at_0 D d Q r0 r1 h) : JW D (d + 1) mX34_at 0 [some (vR 28 r0), some (vR 6 r1)] [] h Q := by
  unfold W_X34_at_0 at w
  refine jw_aload_n (pc' := 1) rfl rfl ?_
  obtain ⟨g_1, w⟩ := w
  refine jw_getR (pc' := 4) (F := 108) (t' := 98) rfl rfl rfl rfl rfl g_1 ?_
  refine jw_aload_n (pc' := 5) rfl rfl ?_
  refine jw_getR (pc' := 8) (F := 126) (t' := 55) rfl rfl rfl rfl rfl g_1 ?_
  refine jw_aload_n (pc' := 9) rfl rfl ?_
  obtain ⟨g_2, w⟩ := w
  refine JW.inv (fun hI => JW.oks (fun ho => ?_))
  have hkd := und55.k hI (ho (vR 55 (jfr h 126 r0)) (by simp)) g_2
  simp only [List.mem_cons, List.not_mem_nil, or_false] at hkd
  clear ho hI
  rcases hkd with e_6 | e_6 | e_6 | e_6 | e_6 | e_6 | e_6 | e_6 | e_6 | e_6
  · refine jw_gen (ls' := _) (st' := [vR 6 r1, vR 20 (jfr h 126 r0), vR 98 (jfr h 108 r0)]) (jgl_rf _ _) (And.intro (Or.inl rfl) (And.intro (Or.inr ⟨_, _, _, rfl, rfl, Or.inr (Or.inr (by rw [e_6]; rfl))⟩) (jgs_rf _ _))) ?_
    refine jw_cR (st := [vR 98 (jfr h 108 r0)]) (sa := [vR 20 (jfr h 126 r0), vR 6 r1]) okX25_at rfl rfl rfl rfl rfl rfl (jstp_up (sa := [vR 6 r1]) (st := [vR 98 (jfr h 108 r0)]) rfl (lw_g (jtb_mem (c := 12) (i := 40) rfl) rfl) um28 okX25_at g_2 (fun _ _ => by rw [e_6]; exact ⟨rfl, rfl⟩) rfl rfl) (w.1 e_6) (fun v_5 h_3 _ _ _ w => ?_)
    refine jw_gen (ls' := [some (vR 28 r0), none]) (st' := [vR 8 v_5, vR 98 (jfr h 108 r0)]) (And.intro (Or.inl rfl) (trivial)) (And.intro (Or.inl rfl) (And.intro (Or.inl rfl) (trivial))) ?_
    exact w_X34_at_12 w
  · refine jw_gen (ls' := _) (st' := [vR 6 r1, vR 21 (jfr h 126 r0), vR 98 (jfr h 108 r0)]) (jgl_rf _ _) (And.intro (Or.inl rfl) (And.intro (Or.inr ⟨_, _, _, rfl, rfl, Or.inr (Or.inr (by rw [e_6]; rfl))⟩) (jgs_rf _ _))) ?_
    refine jw_cR (st := [vR 98 (jfr h 108 r0)]) (sa := [vR 21 (jfr h 126 r0), vR 6 r1]) okX27_at rfl rfl rfl rfl rfl rfl (jstp_up (sa := [vR 6 r1]) (st := [vR 98 (jfr h 108 r0)]) rfl (lw_g (jtb_mem (c := 12) (i := 40) rfl) rfl) um29 okX27_at g_2 (fun _ _ => by rw [e_6]; exact ⟨rfl, rfl⟩) rfl rfl) (w.2.1 e_6) (fun v_5 h_3 _ _ _ w => ?_)
    refine jw_gen (ls' := [some (vR 28 r0), none]) (st' := [vR 8 v_5, vR 98 (jfr h 108 r0)]) (And.intro (Or.inl rfl) (trivial)) (And.intro (Or.inl rfl) (And.intro (Or.inl rfl) (trivial))) ?_
    exact w_X34_at_12 w
  · refine jw_gen (ls' := _) (st' := [vR 6 r1, vR 22 (jfr h 126 r0), vR 98 (jfr h 108 r0)]) (jgl_rf _ _) (And.intro (Or.inl rfl) (And.intro (Or.inr ⟨_, _, _, rfl, rfl, Or.inr (Or.inr (by rw [e_6]; rfl))⟩) (jgs_rf _ _))) ?_
    refine jw_cR (st := [vR 98 (jfr h 108 r0)]) (sa := [vR 22 (jfr h 126 r0), vR 6 r1]) okX28_at rfl rfl rfl rfl rfl rfl (jstp_up (sa := [vR 6 r1]) (st := [vR 98 (jfr h 108 r0)]) rfl (lw_g (jtb_mem (c := 12) (i := 40) rfl) rfl) um30 okX28_at g_2 (fun _ _ => by rw [e_6]; exact ⟨rfl, rfl⟩) rfl rfl) (w.2.2.1 e_6) (fun v_5 h_3 _ _ _ w => ?_)
    refine jw_gen (ls' := [some (vR 28 r0), none]) (st' := [vR 8 v_5, vR 98 (jfr h 108 r0)]) (And.intro (Or.inl rfl) (trivial)) (And.intro (Or.inl rfl) (And.intro (Or.inl rfl) (trivial))) ?_
    exact w_X34_at_12 w
  · refine jw_gen (ls' := _) (st' := [vR 6 r1, vR 23 (jfr h 126 r0), vR 98 (jfr h 108 r0)]) (jgl_rf _ _) (And.intro (Or.inl rfl) (And.intro (Or.inr ⟨_, _, _, rfl, rfl, Or.inr (Or.inr (by rw [e_6]; rfl))⟩) (jgs_rf _ _))) ?_
    refine jw_cR (st := [vR 98 (jfr h 108 r0)]) (sa := [vR 23 (jfr h 126 r0), vR 6 r1]) okX29_at rfl rfl rfl rfl rfl rfl (jstp_up (sa := [vR 6 r1]) (st := [vR 98 (jfr h 108 r0)]) rfl (lw_g (jtb_mem (c := 12) (i := 40) rfl) rfl) um31 okX29_at g_2 (fun _ _ => by rw [e_6]; exact ⟨rfl, rfl⟩) rfl rfl) (w.2.2.2.1 e_6) (fun v_5 h_3 _ _ _ w => ?_)
    refine jw_gen (ls' := [some (vR 28 r0), none]) (st' := [vR 8 v_5, vR 98 (jfr h 108 r0)]) (And.intro (Or.inl rfl) (trivial)) (And.intro (Or.inl rfl) (And.intro (Or.inl rfl) (trivial))) ?_
    exact w_X34_at_12 w
  · refine jw_gen (ls' := _) (st' := [vR 6 r1, vR 24 (jfr h 126 r0), vR 98 (jfr h 108 r0)]) (jgl_rf _ _) (And.intro (Or.inl rfl) (And.intro (Or.inr ⟨_, _, _, rfl, rfl, Or.inr (Or.inr (by rw [e_6]; rfl))⟩) (jgs_rf _ _))) ?_
    refine jw_cR (st := [vR 98 (jfr h 108 r0)]) (sa := [vR 24 (jfr h 126 r0), vR 6 r1]) okX30_at rfl rfl rfl rfl rfl rfl (jstp_up (sa := [vR 6 r1]) (st := [vR 98 (jfr h 108 r0)]) rfl (lw_g (jtb_mem (c := 12) (i := 40) rfl) rfl) um32 okX30_at g_2 (fun _ _ => by rw [e_6]; exact ⟨rfl, rfl⟩) rfl rfl) (w.2.2.2.2.1 e_6) (fun v_5 h_3 _ _ _ w => ?_)
    refine jw_gen (ls' := [some (vR 28 r0), none]) (st' := [vR 8 v_5, vR 98 (jfr h 108 r0)]) (And.intro (Or.inl rfl) (trivial)) (And.intro (Or.inl rfl) (And.intro (Or.inl rfl) (trivial))) ?_
    exact w_X34_at_12 w
  · refine jw_gen (ls' := _) (st' := [vR 6 r1, vR 25 (jfr h 126 r0), vR 98 (jfr h 108 r0)]) (jgl_rf _ _) (And.intro (Or.inl rfl) (And.intro (Or.inr ⟨_, _, _, rfl, rfl, Or.inr (Or.inr (by rw [e_6]; rfl))⟩) (jgs_rf _ _))) ?_
    refine jw_cR (st := [vR 98 (jfr h 108 r0)]) (sa := [vR 25 (jfr h 126 r0), vR 6 r1]) okX31_at rfl rfl rfl rfl rfl rfl (jstp_up (sa := [vR 6 r1]) (st := [vR 98 (jfr h 108 r0)]) rfl (lw_g (jtb_mem (c := 12) (i := 40) rfl) rfl) um33 okX31_at g_2 (fun _ _ => by rw [e_6]; exact ⟨rfl, rfl⟩) rfl rfl) (w.2.2.2.2.2.1 e_6) (fun v_5 h_3 _ _ _ w => ?_)
    refine jw_gen (ls' := [some (vR 28 r0), none]) (st' := [vR 8 v_5, vR 98 (jfr h 108 r0)]) (And.intro (Or.inl rfl) (trivial)) (And.intro (Or.inl rfl) (And.intro (Or.inl rfl) (trivial))) ?_
    exact w_X34_at_12 w
  · refine jw_gen (ls' := _) (st' := [vR 6 r1, vR 26 (jfr h 126 r0), vR 98 (jfr h 108 r0)]) (jgl_rf _ _) (And.intro (Or.inl rfl) (And.intro (Or.inr ⟨_, _, _, rfl, rfl, Or.inr (Or.inr (by rw [e_6]; rfl))⟩) (jgs_rf _ _))) ?_
    refine jw_cR (st := [vR 98 (jfr h 108 r0)]) (sa := [vR 26 (jfr h 126 r0), vR 6 r1]) okX32_at rfl rfl rfl rfl rfl rfl (jstp_up (sa := [vR 6 r1]) (st := [vR 98 (jfr h 108 r0)]) rfl (lw_g (jtb_mem (c := 12) (i := 40) rfl) rfl) um34 okX32_at g_2 (fun _ _ => by rw [e_6]; exact ⟨rfl, rfl⟩) rfl rfl) (w.2.2.2.2.2.2.1 e_6) (fun v_5 h_3 _ _ _ w => ?_)
    refine jw_gen (ls' := [some (vR 28 r0), none]) (st' := [vR 8 v_5, vR 98 (jfr h 108 r0)]) (And.intro (Or.inl rfl) (trivial)) (And.intro (Or.inl rfl) (And.intro (Or.inl rfl) (trivial))) ?_
    exact w_X34_at_12 w
  · refine jw_gen (ls' := _) (st' := [vR 6 r1, vR 27 (jfr h 126 r0), vR 98 (jfr h 108 r0)]) (jgl_rf _ _) (And.intro (Or.inl rfl) (And.intro (Or.inr ⟨_, _, _, rfl, rfl, Or.inr (Or.inr (by rw [e_6]; rfl))⟩) (jgs_rf _ _))) ?_
    refine jw_cR (st := [vR 98 (jfr h 108 r0)]) (sa := [vR 27 (jfr h 126 r0), vR 6 r1]) okX33_at rfl rfl rfl rfl rfl rfl (jstp_up (sa := [vR 6 r1]) (st := [vR 98 (jfr h 108 r0)]) rfl (lw_g (jtb_mem (c := 12) (i := 40) rfl) rfl) um35 okX33_at g_2 (fun _ _ => by rw [e_6]; exact ⟨rfl, rfl⟩) rfl rfl) (w.2.2.2.2.2.2.2.1 e_6) (fun v_5 h_3 _ _ _ w => ?_)
    refine jw_gen (ls' := [some (vR 28 r0), none]) (st' := [vR 8 v_5, vR 98 (jfr h 108 r0)]) (And.intro (Or.inl rfl) (trivial)) (And.intro (Or.inl rfl) (And.intro (Or.inl rfl) (trivial))) ?_
    exact w_X34_at_12 w
  · refine jw_gen (ls' := _) (st' := [vR 6 r1, vR 28 (jfr h 126 r0), vR 98 (jfr h 108 r0)]) (jgl_rf _ _) (And.intro (Or.inl rfl) (And.intro (Or.inr ⟨_, _, _, rfl, rfl, Or.inr (Or.inr (by rw [e_6]; rfl))⟩) (jgs_rf _ _))) ?_
    refine jw_cR (st := [vR 98 (jfr h 108 r0)]) (sa := [vR 28 (jfr h 126 r0), vR 6 r1]) okX34_at rfl rfl rfl rfl rfl rfl (jstp_up (sa := [vR 6 r1]) (st := [vR 98 (jfr h 108 r0)]) rfl (lw_g (jtb_mem (c := 12) (i := 40) rfl) rfl) um36 okX34_at g_2 (fun _ _ => by rw [e_6]; exact ⟨rfl, rfl⟩) rfl rfl) (w.2.2.2.2.2.2.2.2.1 e_6) (fun v_5 h_3 _ _ _ w => ?_)
    refine jw_gen (ls' := [some (vR 28 r0), none]) (st' := [vR 8 v_5, vR 98 (jfr h 108 r0)]) (And.intro (Or.inl rfl) (trivial)) (And.intro (Or.inl rfl) (And.intro (Or.inl rfl) (trivial))) ?_
    exact w_X34_at_12 w
  · refine jw_gen (ls' := _) (st' := [vR 6 r1, vR 29 (jfr h 126 r0), vR 98 (jfr h 108 r0)]) (jgl_rf _ _) (And.intro (Or.inl rfl) (And.intro (Or.inr ⟨_, _, _, rfl, rfl, Or.inr (Or.inr (by rw [e_6]; rfl))⟩) (jgs_rf _ _))) ?_
    refine jw_cR (st := [vR 98 (jfr h 108 r0)]) (sa := [vR 29 (jfr h 126 r0), vR 6 r1]) okX35_at rfl rfl rfl rfl rfl rfl (jstp_up (sa := [vR 6 r1]) (st := [vR 98 (jfr h 108 r0)]) rfl (lw_g (jtb_mem (c := 12) (i := 40) rfl) rfl) um37 okX35_at g_2 (fun _ _ => by rw [e_6]; exact ⟨rfl, rfl⟩) rfl rfl) (w.2.2.2.2.2.2.2.2.2 e_6) (fun v_5 h_3 _ _ _ w => ?_)
    refine jw_gen (ls' := [some (vR 28 r0), none]) (st' := [vR 8 v_5, vR 98 (jfr h 108 r0)]) (And.intro (Or.inl rfl) (trivial)) (And.intro (Or.inl rfl) (And.intro (Or.inl rfl) (trivial))) ?_
    exact w_X34_at_12 w
def T_X34_at (D : JD) (d : Nat) (Q : JO → JH → Prop) (r0 : Nat) (r1 : Nat) (h : JH) : Prop := W_X34_at_0 D d Q r0 r1 h
theorem t_X34_at {D : JD} {d : Nat} {Q : JO → JH → Prop} {r0 : Nat} {r1 : Nat} {h : JH} (w : T_X34_at D d Q r0 r1 h) : cX34_at D (d + 1) r0 r1 h Q := by
  unfold T_X34_at at w
  unfold cX34_at
  exact w_X34_at_0 w
def W_X35_init_0 (D : JD) (d : Nat) (Q : JO → JH → Prop) (r0 : Nat) (r1 : Nat) (x2 : Int32) (x3 : Int32) (h : JH) : Prop :=
  r0 ≠ 0 ∧ (cX26_init D d r0 r1 x2 h (pV D h (fun h_2 => jbo x3 ∧ ∀ h_6 : JH, h_6 = wfi h_2 128 r0 x3 → (Q (.inl none) h_6)) (jth Q)))
theorem w_X35_init_0 {D : JD} {d : Nat} {Q : JO → JH → Prop} {r0 : Nat} {r1 : Nat} {x2 : Int32} {x3 : Int32} {h : JH} (w : W_X35_init_0 D d Q r0 r1 x2 x3 h) : JW D (d + 1) mX35_init 0 [some (vR 29 r0), some (vR 77 r1), some (vI x2), some (vI x3)] [] h Q := by
  unfold W_X35_init_0 at w
  refine jw_aload_n (pc' := 1) rfl rfl ?_
  refine jw_aload_n (pc' := 2) rfl rfl ?_
  refine jw_iload_n (pc' := 3) rfl rfl ?_
  obtain ⟨g_1, w⟩ := w
  refine jw_cV (st := []) (sa := [vR 29 r0, vR 77 r1, vI x2]) okX26_init rfl rfl rfl rfl rfl rfl (jstp_init (sa := [vR 77 r1, vI x2]) (st := []) rfl rfl sX26_init okX26_init (lw_g (jtb_mem (c := 7) (i := 184) rfl) rfl) g_1 rfl rfl) w (fun h_2 _ _ w => ?_)
  refine jw_aload_n (pc' := 7) rfl rfl ?_
  refine jw_iload_n (pc' := 8) rfl rfl ?_
  obtain ⟨g_5, w⟩ := w
  refine jw_putI' (pc' := 11) (F := 128) rfl rfl rfl (Or.inr rfl) (Or.inr ⟨rfl, rfl⟩) rfl (g_5.nr) (g_5.ft) rfl g_1 (fun h_6 e_7 => ?_)
  replace w := w h_6 e_7
  exact jw_return rfl rfl w
def T_X35_init (D : JD) (d : Nat) (Q : JO → JH → Prop) (r0 : Nat) (r1 : Nat) (x2 : Int32) (x3 : Int32) (h : JH) : Prop := W_X35_init_0 D d Q r0 r1 x2 x3 h
theorem t_X35_init {D : JD} {d : Nat} {Q : JO → JH → Prop} {r0 : Nat} {r1 : Nat} {x2 : Int32} {x3 : Int32} {h : JH} (w : T_X35_init D d Q r0 r1 x2 x3 h) : cX35_init D (d + 1) r0 r1 x2 x3 h Q := by
  unfold T_X35_init at w
  unfold cX35_init
  exact w_X35_init_0 w
def W_X35_check_20 (D : JD) (d : Nat) (Q : JO → JH → Prop) (K2 : Nat → Nat → Int32 → JH → Prop) (r0 : Nat) (r1 : Nat) (x2 : Int32) (q0 : Nat) (h : JH) : Prop :=
  K2 r0 r1 (x2 + (1 : Int32)) h
theorem w_X35_check_20 {D : JD} {d : Nat} {Q : JO → JH → Prop} {K2 : Nat → Nat → Int32 → JH → Prop} {r0 : Nat} {r1 : Nat} {x2 : Int32} {q0 : Nat} {h : JH} (hK2 : ∀ (r0 : Nat) (r1 : Nat) (x2 : Int32) (h : JH), K2 r0 r1 x2 h → JW D (d + 1) mX35_check 2 [some (vR 29 r0), some (vR 6 r1), some (vI x2)] [] h Q) (w : W_X35_check_20 D d Q K2 r0 r1 x2 q0 h) : JW D (d + 1) mX35_check 20 [some (vR 29 r0), some (vR 6 r1), some (vI x2)] [vR 52 q0] h Q := by
  unfold W_X35_check_20 at w
  refine jw_pop (pc' := 21) rfl rfl ?_
  refine jw_iinc (pc' := 24) (y := x2 + (1 : Int32)) (ls' := [some (vR 29 r0), some (vR 6 r1), some (vI (x2 + (1 : Int32)))]) rfl (by decide) rfl rfl rfl ?_
  refine jw_goto (pc' := 2) rfl rfl ?_
  exact hK2 _ _ _ _ w
def W_X35_check_2 (D : JD) (d : Nat) (Q : JO → JH → Prop) (K2 : Nat → Nat → Int32 → JH → Prop) (r0 : Nat) (r1 : Nat) (x2 : Int32) (h : JH) : Prop :=
  r0 ≠ 0 ∧ (((jfi h 112 r0) ≤ x2 → cX26_one D d r0 h (pR D h 52 (fun v_5 h_3 => ∀ h_6 : JH, h_6 = wfr h_3 109 r0 (jcs D 357) → (Q (.inl (some (vR 52 (jfr h_6 109 r0)))) h_6)) (jth Q))) ∧ (¬ (jfi h 112 r0) ≤ x2 → (jfr h 111 r0) ≠ 0 ∧ jin x2 (jln h (jfr h 111 r0)) ∧ ((jar h (jfr h 111 r0) (ixn x2)) ≠ 0 ∧ (v55_check D d (jar h (jfr h 111 r0) (ixn x2)) r1 h (pR D h 52 (fun v_13 h_11 => W_X35_check_20 D d Q K2 r0 r1 x2 v_13 h_11) (jth Q))))))
theorem w_X35_check_2 {D : JD} {d : Nat} {Q : JO → JH → Prop} {K2 : Nat → Nat → Int32 → JH → Prop} {r0 : Nat} {r1 : Nat} {x2 : Int32} {h : JH} (hK2 : ∀ (r0 : Nat) (r1 : Nat) (x2 : Int32) (h : JH), K2 r0 r1 x2 h → JW D (d + 1) mX35_check 2 [some (vR 29 r0), some (vR 6 r1), some (vI x2)] [] h Q) (w : W_X35_check_2 D d Q K2 r0 r1 x2 h) : JW D (d + 1) mX35_check 2 [some (vR 29 r0), some (vR 6 r1), some (vI x2)] [] h Q := by
  unfold W_X35_check_2 at w
  refine jw_iload_n (pc' := 3) rfl rfl ?_
  refine jw_aload_n (pc' := 4) rfl rfl ?_
  obtain ⟨g_1, w⟩ := w
  refine jw_getI (pc' := 7) (F := 112) rfl rfl rfl rfl g_1 ?_
  refine jw_icmp_ge (tgt := 27) (pc' := 10) rfl rfl (fun c_2 => ?_) (fun c_2 => ?_)
  · replace w := w.1 c_2
    refine jw_aload_n (pc' := 28) rfl rfl ?_
    refine jw_cR (st := []) (sa := [vR 29 r0]) okX26_one rfl rfl rfl rfl rfl rfl (jstp_up (sa := []) (st := []) rfl (lw_g (jtb_mem (c := 10) (i := 97) rfl) rfl) um114 okX26_one g_1 (one29.k g_1) rfl rfl) w (fun v_5 h_3 _ _ _ w => ?_)
    refine jw_pop (pc' := 32) rfl rfl ?_
    refine jw_aload_n (pc' := 33) rfl rfl ?_
    refine jw_getsR (pc' := 36) rfl rfl rfl rfl ?_
    refine jw_putR' (pc' := 39) (F := 109) rfl rfl rfl (Or.inr rfl) (Or.inl rfl) rfl rfl rfl g_1 (fun h_6 e_7 => ?_)
    replace w := w h_6 e_7
    refine jw_aload_n (pc' := 40) rfl rfl ?_
    refine jw_getR (pc' := 43) (F := 109) (t' := 52) rfl rfl rfl rfl rfl g_1 ?_
    exact jw_areturn rfl rfl rfl rfl rfl w
  · replace w := w.2 c_2
    refine jw_aload_n (pc' := 11) rfl rfl ?_
    refine jw_getR (pc' := 14) (F := 111) (t' := 77) rfl rfl rfl rfl rfl g_1 ?_
    refine jw_iload_n (pc' := 15) rfl rfl ?_
    obtain ⟨g_8, w⟩ := w
    obtain ⟨g_9, w⟩ := w
    refine jw_aald (pc' := 16) (t' := 55) rfl rfl rfl rfl g_8 g_9.ix g_9.2 ?_
    refine jw_aload_n (pc' := 17) rfl rfl ?_
    obtain ⟨g_10, w⟩ := w
    refine JW.inv (fun hI => JW.oks (fun ho => ?_))
    have hkd := und55.k hI (ho (vR 55 (jar h (jfr h 111 r0) (ixn x2))) (by simp)) g_10
    simp only [List.mem_cons, List.not_mem_nil, or_false] at hkd
    clear ho hI
    rcases hkd with e_14 | e_14 | e_14 | e_14 | e_14 | e_14 | e_14 | e_14 | e_14 | e_14
    · refine jw_gen (ls' := _) (st' := [vR 6 r1, vR 20 (jar h (jfr h 111 r0) (ixn x2))]) (jgl_rf _ _) (And.intro (Or.inl rfl) (And.intro (Or.inr ⟨_, _, _, rfl, rfl, Or.inr (Or.inr (by rw [e_14]; rfl))⟩) (jgs_rf _ _))) ?_
      refine jw_cR (st := []) (sa := [vR 20 (jar h (jfr h 111 r0) (ixn x2)), vR 6 r1]) okX25_check rfl rfl rfl rfl rfl rfl (jstp_up (sa := [vR 6 r1]) (st := []) rfl (lw_g (jtb_mem (c := 10) (i := 96) rfl) rfl) um18 okX25_check g_10 (fun _ _ => by rw [e_14]; exact ⟨rfl, rfl⟩) rfl rfl) (w.1 e_14) (fun v_13 h_11 _ _ _ w => ?_)
      exact w_X35_check_20 hK2 w
    · refine jw_gen (ls' := _) (st' := [vR 6 r1, vR 21 (jar h (jfr h 111 r0) (ixn x2))]) (jgl_rf _ _) (And.intro (Or.inl rfl) (And.intro (Or.inr ⟨_, _, _, rfl, rfl, Or.inr (Or.inr (by rw [e_14]; rfl))⟩) (jgs_rf _ _))) ?_
      refine jw_cR (st := []) (sa := [vR 21 (jar h (jfr h 111 r0) (ixn x2)), vR 6 r1]) okX27_check rfl rfl rfl rfl rfl rfl (jstp_up (sa := [vR 6 r1]) (st := []) rfl (lw_g (jtb_mem (c := 10) (i := 96) rfl) rfl) um19 okX27_check g_10 (fun _ _ => by rw [e_14]; exact ⟨rfl, rfl⟩) rfl rfl) (w.2.1 e_14) (fun v_13 h_11 _ _ _ w => ?_)
      exact w_X35_check_20 hK2 w
    · refine jw_gen (ls' := _) (st' := [vR 6 r1, vR 22 (jar h (jfr h 111 r0) (ixn x2))]) (jgl_rf _ _) (And.intro (Or.inl rfl) (And.intro (Or.inr ⟨_, _, _, rfl, rfl, Or.inr (Or.inr (by rw [e_14]; rfl))⟩) (jgs_rf _ _))) ?_
      refine jw_cR (st := []) (sa := [vR 22 (jar h (jfr h 111 r0) (ixn x2)), vR 6 r1]) okX28_check rfl rfl rfl rfl rfl rfl (jstp_up (sa := [vR 6 r1]) (st := []) rfl (lw_g (jtb_mem (c := 10) (i := 96) rfl) rfl) um20 okX28_check g_10 (fun _ _ => by rw [e_14]; exact ⟨rfl, rfl⟩) rfl rfl) (w.2.2.1 e_14) (fun v_13 h_11 _ _ _ w => ?_)
      exact w_X35_check_20 hK2 w
    · refine jw_gen (ls' := _) (st' := [vR 6 r1, vR 23 (jar h (jfr h 111 r0) (ixn x2))]) (jgl_rf _ _) (And.intro (Or.inl rfl) (And.intro (Or.inr ⟨_, _, _, rfl, rfl, Or.inr (Or.inr (by rw [e_14]; rfl))⟩) (jgs_rf _ _))) ?_
      refine jw_cR (st := []) (sa := [vR 23 (jar h (jfr h 111 r0) (ixn x2)), vR 6 r1]) okX29_check rfl rfl rfl rfl rfl rfl (jstp_up (sa := [vR 6 r1]) (st := []) rfl (lw_g (jtb_mem (c := 10) (i := 96) rfl) rfl) um21 okX29_check g_10 (fun _ _ => by rw [e_14]; exact ⟨rfl, rfl⟩) rfl rfl) (w.2.2.2.1 e_14) (fun v_13 h_11 _ _ _ w => ?_)
      exact w_X35_check_20 hK2 w
    · refine jw_gen (ls' := _) (st' := [vR 6 r1, vR 24 (jar h (jfr h 111 r0) (ixn x2))]) (jgl_rf _ _) (And.intro (Or.inl rfl) (And.intro (Or.inr ⟨_, _, _, rfl, rfl, Or.inr (Or.inr (by rw [e_14]; rfl))⟩) (jgs_rf _ _))) ?_
      refine jw_cR (st := []) (sa := [vR 24 (jar h (jfr h 111 r0) (ixn x2)), vR 6 r1]) okX30_check rfl rfl rfl rfl rfl rfl (jstp_up (sa := [vR 6 r1]) (st := []) rfl (lw_g (jtb_mem (c := 10) (i := 96) rfl) rfl) um22 okX30_check g_10 (fun _ _ => by rw [e_14]; exact ⟨rfl, rfl⟩) rfl rfl) (w.2.2.2.2.1 e_14) (fun v_13 h_11 _ _ _ w => ?_)
      exact w_X35_check_20 hK2 w
    · refine jw_gen (ls' := _) (st' := [vR 6 r1, vR 25 (jar h (jfr h 111 r0) (ixn x2))]) (jgl_rf _ _) (And.intro (Or.inl rfl) (And.intro (Or.inr ⟨_, _, _, rfl, rfl, Or.inr (Or.inr (by rw [e_14]; rfl))⟩) (jgs_rf _ _))) ?_
      refine jw_cR (st := []) (sa := [vR 25 (jar h (jfr h 111 r0) (ixn x2)), vR 6 r1]) okX31_check rfl rfl rfl rfl rfl rfl (jstp_up (sa := [vR 6 r1]) (st := []) rfl (lw_g (jtb_mem (c := 10) (i := 96) rfl) rfl) um23 okX31_check g_10 (fun _ _ => by rw [e_14]; exact ⟨rfl, rfl⟩) rfl rfl) (w.2.2.2.2.2.1 e_14) (fun v_13 h_11 _ _ _ w => ?_)
      exact w_X35_check_20 hK2 w
    · refine jw_gen (ls' := _) (st' := [vR 6 r1, vR 26 (jar h (jfr h 111 r0) (ixn x2))]) (jgl_rf _ _) (And.intro (Or.inl rfl) (And.intro (Or.inr ⟨_, _, _, rfl, rfl, Or.inr (Or.inr (by rw [e_14]; rfl))⟩) (jgs_rf _ _))) ?_
      refine jw_cR (st := []) (sa := [vR 26 (jar h (jfr h 111 r0) (ixn x2)), vR 6 r1]) okX32_check rfl rfl rfl rfl rfl rfl (jstp_up (sa := [vR 6 r1]) (st := []) rfl (lw_g (jtb_mem (c := 10) (i := 96) rfl) rfl) um24 okX32_check g_10 (fun _ _ => by rw [e_14]; exact ⟨rfl, rfl⟩) rfl rfl) (w.2.2.2.2.2.2.1 e_14) (fun v_13 h_11 _ _ _ w => ?_)
      exact w_X35_check_20 hK2 w
    · refine jw_gen (ls' := _) (st' := [vR 6 r1, vR 27 (jar h (jfr h 111 r0) (ixn x2))]) (jgl_rf _ _) (And.intro (Or.inl rfl) (And.intro (Or.inr ⟨_, _, _, rfl, rfl, Or.inr (Or.inr (by rw [e_14]; rfl))⟩) (jgs_rf _ _))) ?_
      refine jw_cR (st := []) (sa := [vR 27 (jar h (jfr h 111 r0) (ixn x2)), vR 6 r1]) okX33_check rfl rfl rfl rfl rfl rfl (jstp_up (sa := [vR 6 r1]) (st := []) rfl (lw_g (jtb_mem (c := 10) (i := 96) rfl) rfl) um25 okX33_check g_10 (fun _ _ => by rw [e_14]; exact ⟨rfl, rfl⟩) rfl rfl) (w.2.2.2.2.2.2.2.1 e_14) (fun v_13 h_11 _ _ _ w => ?_)
      exact w_X35_check_20 hK2 w
    · refine jw_gen (ls' := _) (st' := [vR 6 r1, vR 28 (jar h (jfr h 111 r0) (ixn x2))]) (jgl_rf _ _) (And.intro (Or.inl rfl) (And.intro (Or.inr ⟨_, _, _, rfl, rfl, Or.inr (Or.inr (by rw [e_14]; rfl))⟩) (jgs_rf _ _))) ?_
      refine jw_cR (st := []) (sa := [vR 28 (jar h (jfr h 111 r0) (ixn x2)), vR 6 r1]) okX34_check rfl rfl rfl rfl rfl rfl (jstp_up (sa := [vR 6 r1]) (st := []) rfl (lw_g (jtb_mem (c := 10) (i := 96) rfl) rfl) um26 okX34_check g_10 (fun _ _ => by rw [e_14]; exact ⟨rfl, rfl⟩) rfl rfl) (w.2.2.2.2.2.2.2.2.1 e_14) (fun v_13 h_11 _ _ _ w => ?_)
      exact w_X35_check_20 hK2 w
    · refine jw_gen (ls' := _) (st' := [vR 6 r1, vR 29 (jar h (jfr h 111 r0) (ixn x2))]) (jgl_rf _ _) (And.intro (Or.inl rfl) (And.intro (Or.inr ⟨_, _, _, rfl, rfl, Or.inr (Or.inr (by rw [e_14]; rfl))⟩) (jgs_rf _ _))) ?_
      refine jw_cR (st := []) (sa := [vR 29 (jar h (jfr h 111 r0) (ixn x2)), vR 6 r1]) okX35_check rfl rfl rfl rfl rfl rfl (jstp_up (sa := [vR 6 r1]) (st := []) rfl (lw_g (jtb_mem (c := 10) (i := 96) rfl) rfl) um27 okX35_check g_10 (fun _ _ => by rw [e_14]; exact ⟨rfl, rfl⟩) rfl rfl) (w.2.2.2.2.2.2.2.2.2 e_14) (fun v_13 h_11 _ _ _ w => ?_)
      exact w_X35_check_20 hK2 w
def L_X35_check_2 (D : JD) (d : Nat) (Q : JO → JH → Prop) : Nat → Nat → Nat → Int32 → JH → Prop
  | 0 => fun _ _ _ _ => False
  | n + 1 => fun r0 r1 x2 h => W_X35_check_2 D d Q (L_X35_check_2 D d Q n) r0 r1 x2 h
theorem l_X35_check_2 {D : JD} {d : Nat} {Q : JO → JH → Prop} : ∀ (n : Nat) (r0 : Nat) (r1 : Nat) (x2 : Int32) (h : JH), L_X35_check_2 D d Q n r0 r1 x2 h → JW D (d + 1) mX35_check 2 [some (vR 29 r0), some (vR 6 r1), some (vI x2)] [] h Q := by
  intro n
  induction n with
  | zero => intro _ _ _ _ w; exact w.elim
  | succ n ih => intro _ _ _ h w; exact w_X35_check_2 ih w
def W_X35_check_0 (D : JD) (d : Nat) (Q : JO → JH → Prop) (r0 : Nat) (r1 : Nat) (h : JH) : Prop :=
  ∃ n, L_X35_check_2 D d Q n r0 r1 (0 : Int32) h
theorem w_X35_check_0 {D : JD} {d : Nat} {Q : JO → JH → Prop} {r0 : Nat} {r1 : Nat} {h : JH} (w : W_X35_check_0 D d Q r0 r1 h) : JW D (d + 1) mX35_check 0 [some (vR 29 r0), some (vR 6 r1), none] [] h Q := by
  unfold W_X35_check_0 at w
  refine jw_iconst (pc' := 1) (x := (0 : Int32)) rfl rfl ?_
  refine jw_istore_n (pc' := 2) (ls' := [some (vR 29 r0), some (vR 6 r1), some (vI (0 : Int32))]) rfl (by decide) rfl ?_
  obtain ⟨n, w⟩ := w
  exact l_X35_check_2 n _ _ _ _ w
def T_X35_check (D : JD) (d : Nat) (Q : JO → JH → Prop) (r0 : Nat) (r1 : Nat) (h : JH) : Prop := W_X35_check_0 D d Q r0 r1 h
theorem t_X35_check {D : JD} {d : Nat} {Q : JO → JH → Prop} {r0 : Nat} {r1 : Nat} {h : JH} (w : T_X35_check D d Q r0 r1 h) : cX35_check D (d + 1) r0 r1 h Q := by
  unfold T_X35_check at w
  unfold cX35_check
  exact w_X35_check_0 w
def W_X35_like_34 (D : JD) (d : Nat) (Q : JO → JH → Prop) (s0 : Int32) (h : JH) : Prop :=
  jbo s0 ∧ (Q (.inl (some (vI s0))) h)
theorem w_X35_like_34 {D : JD} {d : Nat} {Q : JO → JH → Prop} {s0 : Int32} {h : JH} (w : W_X35_like_34 D d Q s0 h) : JW D (d + 1) mX35_like 34 [none, none] [vI s0] h Q := by
  unfold W_X35_like_34 at w
  obtain ⟨g_1, w⟩ := w
  exact jw_ireturn rfl rfl (g_1.nr) w
def W_X35_like_33 (D : JD) (d : Nat) (Q : JO → JH → Prop) (h : JH) : Prop :=
  W_X35_like_34 D d Q (0 : Int32) h
theorem w_X35_like_33 {D : JD} {d : Nat} {Q : JO → JH → Prop} {h : JH} (w : W_X35_like_33 D d Q h) : JW D (d + 1) mX35_like 33 [none, none] [] h Q := by
  unfold W_X35_like_33 at w
  refine jw_iconst (pc' := 34) (x := (0 : Int32)) rfl rfl ?_
  exact w_X35_like_34 w
def W_X35_like_0 (D : JD) (d : Nat) (Q : JO → JH → Prop) (r0 : Nat) (r1 : Nat) (h : JH) : Prop :=
  ((r1 ≠ 0 ∧ jkd h r1 = 29) → (r1 = 0 ∨ jkd h r1 = 29) ∧ (r1 ≠ 0 ∧ (r0 ≠ 0 ∧ ((¬ (jfi h 128 r1) = (jfi h 128 r0) → W_X35_like_33 D d Q h) ∧ ((jfi h 128 r1) = (jfi h 128 r0) → cX24_likeParts D d r0 r1 h (pI D h (fun v_9 h_7 => (v_9 = 0 → W_X35_like_33 D d Q h_7) ∧ (¬ v_9 = 0 → W_X35_like_34 D d Q (1 : Int32) h_7)) (jth Q))))))) ∧ (¬ (r1 ≠ 0 ∧ jkd h r1 = 29) → W_X35_like_33 D d Q h)
theorem w_X35_like_0 {D : JD} {d : Nat} {Q : JO → JH → Prop} {r0 : Nat} {r1 : Nat} {h : JH} (w : W_X35_like_0 D d Q r0 r1 h) : JW D (d + 1) mX35_like 0 [some (vR 29 r0), some (vR 55 r1)] [] h Q := by
  unfold W_X35_like_0 at w
  refine jw_aload_n (pc' := 1) rfl rfl ?_
  refine jw_inst (pc' := 4) (t := 55) (kt := 29) rfl rfl rfl rfl (by decide +kernel) (fun c_1 => ?_) (fun c_1 => ?_)
  · replace w := w.1 c_1
    refine jw_if_eq (tgt := 33) (pc' := 7) rfl rfl (fun c_2 => absurd c_2 (by decide)) (fun _ => ?_)
    refine jw_aload_n (pc' := 8) rfl rfl ?_
    obtain ⟨g_3, w⟩ := w
    refine jw_cast (pc' := 11) (t2 := 29) rfl rfl rfl rfl g_3 ?_
    obtain ⟨g_4, w⟩ := w
    refine jw_getI (pc' := 14) (F := 128) rfl rfl rfl rfl g_4 ?_
    refine jw_aload_n (pc' := 15) rfl rfl ?_
    obtain ⟨g_5, w⟩ := w
    refine jw_getI (pc' := 18) (F := 128) rfl rfl rfl rfl g_5 ?_
    refine jw_icmp_ne (tgt := 33) (pc' := 21) rfl rfl (fun c_6 => ?_) (fun c_6 => ?_)
    · replace w := w.1 c_6
      refine jw_gen (ls' := [none, none]) (st' := []) (trivial) (trivial) ?_
      exact w_X35_like_33 w
    · replace w := w.2 c_6
      refine jw_aload_n (pc' := 22) rfl rfl ?_
      refine jw_aload_n (pc' := 23) rfl rfl ?_
      refine jw_cI (st := []) (sa := [vR 29 r0, vR 55 r1]) okX24_likeParts rfl rfl rfl rfl rfl rfl (jstp_up (sa := [vR 55 r1]) (st := []) rfl (lw_g (jtb_mem (c := 11) (i := 93) rfl) rfl) um115 okX24_likeParts g_5 (one29.k g_5) rfl rfl) w (fun v_9 h_7 _ _ w => ?_)
      refine jw_if_eq (tgt := 33) (pc' := 29) rfl rfl (fun c_10 => ?_) (fun c_10 => ?_)
      · replace w := w.1 c_10
        refine jw_gen (ls' := [none, none]) (st' := []) (trivial) (trivial) ?_
        exact w_X35_like_33 w
      · replace w := w.2 c_10
        refine jw_iconst (pc' := 30) (x := (1 : Int32)) rfl rfl ?_
        refine jw_goto (pc' := 34) rfl rfl ?_
        refine jw_gen (ls' := [none, none]) (st' := [vI (1 : Int32)]) (trivial) (And.intro (Or.inl rfl) (trivial)) ?_
        exact w_X35_like_34 w
  · replace w := w.2 c_1
    refine jw_if_eq (tgt := 33) (pc' := 7) rfl rfl (fun _ => ?_) (fun c_11 => absurd c_11 (by decide))
    refine jw_gen (ls' := [none, none]) (st' := []) (trivial) (trivial) ?_
    exact w_X35_like_33 w
def T_X35_like (D : JD) (d : Nat) (Q : JO → JH → Prop) (r0 : Nat) (r1 : Nat) (h : JH) : Prop := W_X35_like_0 D d Q r0 r1 h
theorem t_X35_like {D : JD} {d : Nat} {Q : JO → JH → Prop} {r0 : Nat} {r1 : Nat} {h : JH} (w : T_X35_like D d Q r0 r1 h) : cX35_like D (d + 1) r0 r1 h Q := by
  unfold T_X35_like at w
  unfold cX35_like
  exact w_X35_like_0 w
def W_X35_at_20 (D : JD) (d : Nat) (Q : JO → JH → Prop) (q0 : Nat) (h : JH) : Prop :=
  Q (.inl (some (vR 8 q0))) h
theorem w_X35_at_20 {D : JD} {d : Nat} {Q : JO → JH → Prop} {q0 : Nat} {h : JH} (w : W_X35_at_20 D d Q q0 h) : JW D (d + 1) mX35_at 20 [none, none] [vR 8 q0] h Q := by
  unfold W_X35_at_20 at w
  exact jw_areturn rfl rfl rfl rfl rfl w
def W_X35_at_0 (D : JD) (d : Nat) (Q : JO → JH → Prop) (r0 : Nat) (r1 : Nat) (h : JH) : Prop :=
  r0 ≠ 0 ∧ (((jfi h 128 r0) = 0 → cX35_among D d r0 r1 h (pR D h 8 (fun v_5 h_3 => W_X35_at_20 D d Q v_5 h_3) (jth Q))) ∧ (¬ (jfi h 128 r0) = 0 → cX35_between D d r0 r1 h (pR D h 8 (fun v_8 h_6 => W_X35_at_20 D d Q v_8 h_6) (jth Q))))
theorem w_X35_at_0 {D : JD} {d : Nat} {Q : JO → JH → Prop} {r0 : Nat} {r1 : Nat} {h : JH} (w : W_X35_at_0 D d Q r0 r1 h) : JW D (d + 1) mX35_at 0 [some (vR 29 r0), some (vR 6 r1)] [] h Q := by
  unfold W_X35_at_0 at w
  refine jw_aload_n (pc' := 1) rfl rfl ?_
  obtain ⟨g_1, w⟩ := w
  refine jw_getI (pc' := 4) (F := 128) rfl rfl rfl rfl g_1 ?_
  refine jw_if_eq (tgt := 15) (pc' := 7) rfl rfl (fun c_2 => ?_) (fun c_2 => ?_)
  · replace w := w.1 c_2
    refine jw_aload_n (pc' := 16) rfl rfl ?_
    refine jw_aload_n (pc' := 17) rfl rfl ?_
    refine jw_cR (st := []) (sa := [vR 29 r0, vR 6 r1]) okX35_among rfl rfl rfl rfl rfl rfl (jstp_virtual (sa := [vR 6 r1]) (st := []) (k := 0) rfl rfl sX35_among okX35_among g_1 (one29.k g_1) rfl rfl) w (fun v_5 h_3 _ _ _ w => ?_)
    refine jw_gen (ls' := [none, none]) (st' := [vR 8 v_5]) (trivial) (And.intro (Or.inl rfl) (trivial)) ?_
    exact w_X35_at_20 w
  · replace w := w.2 c_2
    refine jw_aload_n (pc' := 8) rfl rfl ?_
    refine jw_aload_n (pc' := 9) rfl rfl ?_
    refine jw_cR (st := []) (sa := [vR 29 r0, vR 6 r1]) okX35_between rfl rfl rfl rfl rfl rfl (jstp_virtual (sa := [vR 6 r1]) (st := []) (k := 0) rfl rfl sX35_between okX35_between g_1 (one29.k g_1) rfl rfl) w (fun v_8 h_6 _ _ _ w => ?_)
    refine jw_goto (pc' := 20) rfl rfl ?_
    refine jw_gen (ls' := [none, none]) (st' := [vR 8 v_8]) (trivial) (And.intro (Or.inl rfl) (trivial)) ?_
    exact w_X35_at_20 w
def T_X35_at (D : JD) (d : Nat) (Q : JO → JH → Prop) (r0 : Nat) (r1 : Nat) (h : JH) : Prop := W_X35_at_0 D d Q r0 r1 h
theorem t_X35_at {D : JD} {d : Nat} {Q : JO → JH → Prop} {r0 : Nat} {r1 : Nat} {h : JH} (w : T_X35_at D d Q r0 r1 h) : cX35_at D (d + 1) r0 r1 h Q := by
  unfold T_X35_at at w
  unfold cX35_at
  exact w_X35_at_0 w
def W_X35_between_150 (D : JD) (d : Nat) (Q : JO → JH → Prop) (q0 : Nat) (h : JH) : Prop :=
  Q (.inl (some (vR 8 q0))) h
theorem w_X35_between_150 {D : JD} {d : Nat} {Q : JO → JH → Prop} {q0 : Nat} {h : JH} (w : W_X35_between_150 D d Q q0 h) : JW D (d + 1) mX35_between 150 [none, none, none, none, none, none, none] [vR 8 q0] h Q := by
  unfold W_X35_between_150 at w
  exact jw_areturn rfl rfl rfl rfl rfl w
def W_X35_between_132 (D : JD) (d : Nat) (Q : JO → JH → Prop) (r0 : Nat) (h : JH) : Prop :=
  r0 ≠ 0 ∧ ((jfr h 108 r0) ≠ 0 ∧ (cX14_none D d (jfr h 108 r0) h (pR D h 8 (fun v_5 h_3 => W_X35_between_150 D d Q v_5 h_3) (jth Q))))
theorem w_X35_between_132 {D : JD} {d : Nat} {Q : JO → JH → Prop} {r0 : Nat} {h : JH} (w : W_X35_between_132 D d Q r0 h) : JW D (d + 1) mX35_between 132 [some (vR 29 r0), none, none, none, none, none, none] [] h Q := by
  unfold W_X35_between_132 at w
  refine jw_aload_n (pc' := 133) rfl rfl ?_
  obtain ⟨g_1, w⟩ := w
  refine jw_getR (pc' := 136) (F := 108) (t' := 98) rfl rfl rfl rfl rfl g_1 ?_
  obtain ⟨g_2, w⟩ := w
  refine jw_cR (st := []) (sa := [vR 98 (jfr h 108 r0)]) okX14_none rfl rfl rfl rfl rfl rfl (jstp_virtual (sa := []) (st := []) (k := 0) rfl rfl sX14_none okX14_none g_2 (one98.k g_2) rfl rfl) w (fun v_5 h_3 _ _ _ w => ?_)
  refine jw_goto (pc' := 150) rfl rfl ?_
  refine jw_gen (ls' := [none, none, none, none, none, none, none]) (st' := [vR 8 v_5]) (trivial) (And.intro (Or.inl rfl) (trivial)) ?_
  exact w_X35_between_150 w
def W_X35_between_122 (D : JD) (d : Nat) (Q : JO → JH → Prop) (r0 : Nat) (x4 : Int32) (x6 : Int32) (h : JH) : Prop :=
  (¬ x4 = 0 → W_X35_between_132 D d Q r0 h) ∧ (x4 = 0 → (x6 = 0 → r0 ≠ 0 ∧ ((jfr h 108 r0) ≠ 0 ∧ (cX14_truth D d (jfr h 108 r0) (1 : Int32) h (pR D h 8 (fun v_7 h_5 => W_X35_between_150 D d Q v_7 h_5) (jth Q))))) ∧ (¬ x6 = 0 → W_X35_between_132 D d Q r0 h))
theorem w_X35_between_122 {D : JD} {d : Nat} {Q : JO → JH → Prop} {r0 : Nat} {x4 : Int32} {x6 : Int32} {h : JH} (w : W_X35_between_122 D d Q r0 x4 x6 h) : JW D (d + 1) mX35_between 122 [some (vR 29 r0), none, none, none, some (vI x4), none, some (vI x6)] [] h Q := by
  unfold W_X35_between_122 at w
  refine jw_iload (pc' := 124) rfl rfl ?_
  refine jw_if_ne (tgt := 132) (pc' := 127) rfl rfl (fun c_1 => ?_) (fun c_1 => ?_)
  · replace w := w.1 c_1
    refine jw_gen (ls' := [some (vR 29 r0), none, none, none, none, none, none]) (st' := []) (And.intro (Or.inl rfl) (trivial)) (trivial) ?_
    exact w_X35_between_132 w
  · replace w := w.2 c_1
    refine jw_iload (pc' := 129) rfl rfl ?_
    refine jw_if_eq (tgt := 142) (pc' := 132) rfl rfl (fun c_2 => ?_) (fun c_2 => ?_)
    · replace w := w.1 c_2
      refine jw_aload_n (pc' := 143) rfl rfl ?_
      obtain ⟨g_3, w⟩ := w
      refine jw_getR (pc' := 146) (F := 108) (t' := 98) rfl rfl rfl rfl rfl g_3 ?_
      refine jw_iconst (pc' := 147) (x := (1 : Int32)) rfl rfl ?_
      obtain ⟨g_4, w⟩ := w
      refine jw_cR (st := []) (sa := [vR 98 (jfr h 108 r0), vI (1 : Int32)]) okX14_truth rfl rfl rfl rfl rfl rfl (jstp_virtual (sa := [vI (1 : Int32)]) (st := []) (k := 0) rfl rfl sX14_truth okX14_truth g_4 (one98.k g_4) rfl rfl) w (fun v_7 h_5 _ _ _ w => ?_)
      refine jw_gen (ls' := [none, none, none, none, none, none, none]) (st' := [vR 8 v_7]) (trivial) (And.intro (Or.inl rfl) (trivial)) ?_
      exact w_X35_between_150 w
    · replace w := w.2 c_2
      refine jw_gen (ls' := [some (vR 29 r0), none, none, none, none, none, none]) (st' := []) (And.intro (Or.inl rfl) (trivial)) (trivial) ?_
      exact w_X35_between_132 w
def W_X35_between_97 (D : JD) (d : Nat) (Q : JO → JH → Prop) (r0 : Nat) (r2 : Nat) (x4 : Int32) (r5 : Nat) (s0 : Int32) (h : JH) : Prop :=
  (¬ s0 = 0 → W_X35_between_122 D d Q r0 x4 s0 h) ∧ (s0 = 0 → r2 ≠ 0 ∧ (cX14_order D d r2 r5 h (pI D h (fun v_5 h_3 => (v_5 ≤ 0 → W_X35_between_122 D d Q r0 x4 s0 h_3) ∧ (¬ v_5 ≤ 0 → r0 ≠ 0 ∧ ((jfr h_3 108 r0) ≠ 0 ∧ (cX14_truth D d (jfr h_3 108 r0) (0 : Int32) h_3 (pR D h_3 8 (fun v_11 h_9 => Q (.inl (some (vR 8 v_11))) h_9) (jth Q)))))) (jth Q))))
theorem w_X35_between_97 {D : JD} {d : Nat} {Q : JO → JH → Prop} {r0 : Nat} {r2 : Nat} {x4 : Int32} {r5 : Nat} {s0 : Int32} {h : JH} (w : W_X35_between_97 D d Q r0 r2 x4 r5 s0 h) : JW D (d + 1) mX35_between 97 [some (vR 29 r0), none, some (vR 8 r2), none, some (vI x4), some (vR 8 r5), none] [vI s0] h Q := by
  unfold W_X35_between_97 at w
  refine jw_istore (pc' := 99) (ls' := [some (vR 29 r0), none, some (vR 8 r2), none, some (vI x4), some (vR 8 r5), some (vI s0)]) rfl (by decide) rfl ?_
  refine jw_iload (pc' := 101) rfl rfl ?_
  refine jw_if_ne (tgt := 122) (pc' := 104) rfl rfl (fun c_1 => ?_) (fun c_1 => ?_)
  · replace w := w.1 c_1
    refine jw_gen (ls' := [some (vR 29 r0), none, none, none, some (vI x4), none, some (vI s0)]) (st' := []) (And.intro (Or.inl rfl) (And.intro (Or.inl rfl) (And.intro (Or.inl rfl) (trivial)))) (trivial) ?_
    exact w_X35_between_122 w
  · replace w := w.2 c_1
    refine jw_aload_n (pc' := 105) rfl rfl ?_
    refine jw_aload (pc' := 107) rfl rfl ?_
    obtain ⟨g_2, w⟩ := w
    refine jw_cI (st := []) (sa := [vR 8 r2, vR 8 r5]) okX14_order rfl rfl rfl rfl rfl rfl (jstp_virtual (sa := [vR 8 r5]) (st := []) (k := 0) rfl rfl sX14_order okX14_order g_2 (one8.k g_2) rfl rfl) w (fun v_5 h_3 _ _ w => ?_)
    refine jw_if_le (tgt := 122) (pc' := 113) rfl rfl (fun c_6 => ?_) (fun c_6 => ?_)
    · replace w := w.1 c_6
      refine jw_gen (ls' := [some (vR 29 r0), none, none, none, some (vI x4), none, some (vI s0)]) (st' := []) (And.intro (Or.inl rfl) (And.intro (Or.inl rfl) (And.intro (Or.inl rfl) (trivial)))) (trivial) ?_
      exact w_X35_between_122 w
    · replace w := w.2 c_6
      refine jw_aload_n (pc' := 114) rfl rfl ?_
      obtain ⟨g_7, w⟩ := w
      refine jw_getR (pc' := 117) (F := 108) (t' := 98) rfl rfl rfl rfl rfl g_7 ?_
      refine jw_iconst (pc' := 118) (x := (0 : Int32)) rfl rfl ?_
      obtain ⟨g_8, w⟩ := w
      refine jw_cR (st := []) (sa := [vR 98 (jfr h_3 108 r0), vI (0 : Int32)]) okX14_truth rfl rfl rfl rfl rfl rfl (jstp_virtual (sa := [vI (0 : Int32)]) (st := []) (k := 0) rfl rfl sX14_truth okX14_truth g_8 (one98.k g_8) rfl rfl) w (fun v_11 h_9 _ _ _ w => ?_)
      exact jw_areturn rfl rfl rfl rfl rfl w
def W_X35_between_92 (D : JD) (d : Nat) (Q : JO → JH → Prop) (r0 : Nat) (r2 : Nat) (x4 : Int32) (r5 : Nat) (h : JH) : Prop :=
  W_X35_between_97 D d Q r0 r2 x4 r5 (1 : Int32) h
theorem w_X35_between_92 {D : JD} {d : Nat} {Q : JO → JH → Prop} {r0 : Nat} {r2 : Nat} {x4 : Int32} {r5 : Nat} {h : JH} (w : W_X35_between_92 D d Q r0 r2 x4 r5 h) : JW D (d + 1) mX35_between 92 [some (vR 29 r0), none, some (vR 8 r2), none, some (vI x4), some (vR 8 r5), none] [] h Q := by
  unfold W_X35_between_92 at w
  refine jw_iconst (pc' := 93) (x := (1 : Int32)) rfl rfl ?_
  refine jw_goto (pc' := 97) rfl rfl ?_
  exact w_X35_between_97 w
def W_X35_between_75 (D : JD) (d : Nat) (Q : JO → JH → Prop) (r0 : Nat) (r2 : Nat) (x4 : Int32) (q0 : Nat) (h : JH) : Prop :=
  r2 ≠ 0 ∧ (cX14_isEmpty D d r2 h (pI D h (fun v_4 h_2 => (¬ v_4 = 0 → W_X35_between_92 D d Q r0 r2 x4 q0 h_2) ∧ (v_4 = 0 → q0 ≠ 0 ∧ (cX14_isEmpty D d q0 h_2 (pI D h_2 (fun v_9 h_7 => (v_9 = 0 → W_X35_between_97 D d Q r0 r2 x4 q0 (0 : Int32) h_7) ∧ (¬ v_9 = 0 → W_X35_between_92 D d Q r0 r2 x4 q0 h_7)) (jth Q))))) (jth Q)))
theorem w_X35_between_75 {D : JD} {d : Nat} {Q : JO → JH → Prop} {r0 : Nat} {r2 : Nat} {x4 : Int32} {q0 : Nat} {h : JH} (w : W_X35_between_75 D d Q r0 r2 x4 q0 h) : JW D (d + 1) mX35_between 75 [some (vR 29 r0), none, some (vR 8 r2), none, some (vI x4), none, none] [vR 8 q0] h Q := by
  unfold W_X35_between_75 at w
  refine jw_astore (pc' := 77) (ls' := [some (vR 29 r0), none, some (vR 8 r2), none, some (vI x4), some (vR 8 q0), none]) rfl (by decide) rfl ?_
  refine jw_aload_n (pc' := 78) rfl rfl ?_
  obtain ⟨g_1, w⟩ := w
  refine jw_cI (st := []) (sa := [vR 8 r2]) okX14_isEmpty rfl rfl rfl rfl rfl rfl (jstp_virtual (sa := []) (st := []) (k := 0) rfl rfl sX14_isEmpty okX14_isEmpty g_1 (one8.k g_1) rfl rfl) w (fun v_4 h_2 _ _ w => ?_)
  refine jw_if_ne (tgt := 92) (pc' := 84) rfl rfl (fun c_5 => ?_) (fun c_5 => ?_)
  · replace w := w.1 c_5
    exact w_X35_between_92 w
  · replace w := w.2 c_5
    refine jw_aload (pc' := 86) rfl rfl ?_
    obtain ⟨g_6, w⟩ := w
    refine jw_cI (st := []) (sa := [vR 8 q0]) okX14_isEmpty rfl rfl rfl rfl rfl rfl (jstp_virtual (sa := []) (st := []) (k := 0) rfl rfl sX14_isEmpty okX14_isEmpty g_6 (one8.k g_6) rfl rfl) w (fun v_9 h_7 _ _ w => ?_)
    refine jw_if_eq (tgt := 96) (pc' := 92) rfl rfl (fun c_10 => ?_) (fun c_10 => ?_)
    · replace w := w.1 c_10
      refine jw_iconst (pc' := 97) (x := (0 : Int32)) rfl rfl ?_
      exact w_X35_between_97 w
    · replace w := w.2 c_10
      exact w_X35_between_92 w
def W_X35_between_65 (D : JD) (d : Nat) (Q : JO → JH → Prop) (r0 : Nat) (r1 : Nat) (r2 : Nat) (x4 : Int32) (h : JH) : Prop :=
  r0 ≠ 0 ∧ ((jfr h 111 r0) ≠ 0 ∧ jin (2 : Int32) (jln h (jfr h 111 r0)) ∧ ((jar h (jfr h 111 r0) (ixn (2 : Int32))) ≠ 0 ∧ (v55_at D d (jar h (jfr h 111 r0) (ixn (2 : Int32))) r1 h (pR D h 8 (fun v_7 h_5 => W_X35_between_75 D d Q r0 r2 x4 v_7 h_5) (jth Q)))))
theorem w_X35_between_65 {D : JD} {d : Nat} {Q : JO → JH → Prop} {r0 : Nat} {r1 : Nat} {r2 : Nat} {x4 : Int32} {h : JH} (w : W_X35_between_65 D d Q r0 r1 r2 x4 h) : JW D (d + 1) mX35_between 65 [some (vR 29 r0), some (vR 6 r1), some (vR 8 r2), none, some (vI x4), none, none] [] h Q := by
  unfold W_X35_between_65 at w
  refine jw_aload_n (pc' := 66) rfl rfl ?_
  obtain ⟨g_1, w⟩ := w
  refine jw_getR (pc' := 69) (F := 111) (t' := 77) rfl rfl rfl rfl rfl g_1 ?_
  refine jw_iconst (pc' := 70) (x := (2 : Int32)) rfl rfl ?_
  obtain ⟨g_2, w⟩ := w
  obtain ⟨g_3, w⟩ := w
  refine jw_aald (pc' := 71) (t' := 55) rfl rfl rfl rfl g_2 g_3.ix g_3.2 ?_
  refine jw_aload_n (pc' := 72) rfl rfl ?_
  obtain ⟨g_4, w⟩ := w
  refine JW.inv (fun hI => JW.oks (fun ho => ?_))
  have hkd := und55.k hI (ho (vR 55 (jar h (jfr h 111 r0) (ixn (2 : Int32)))) (by simp)) g_4
  simp only [List.mem_cons, List.not_mem_nil, or_false] at hkd
  clear ho hI
  rcases hkd with e_8 | e_8 | e_8 | e_8 | e_8 | e_8 | e_8 | e_8 | e_8 | e_8
  · refine jw_gen (ls' := _) (st' := [vR 6 r1, vR 20 (jar h (jfr h 111 r0) (ixn (2 : Int32)))]) (jgl_rf _ _) (And.intro (Or.inl rfl) (And.intro (Or.inr ⟨_, _, _, rfl, rfl, Or.inr (Or.inr (by rw [e_8]; rfl))⟩) (jgs_rf _ _))) ?_
    refine jw_cR (st := []) (sa := [vR 20 (jar h (jfr h 111 r0) (ixn (2 : Int32))), vR 6 r1]) okX25_at rfl rfl rfl rfl rfl rfl (jstp_up (sa := [vR 6 r1]) (st := []) rfl (lw_g (jtb_mem (c := 12) (i := 61) rfl) rfl) um28 okX25_at g_4 (fun _ _ => by rw [e_8]; exact ⟨rfl, rfl⟩) rfl rfl) (w.1 e_8) (fun v_7 h_5 _ _ _ w => ?_)
    refine jw_gen (ls' := [some (vR 29 r0), none, some (vR 8 r2), none, some (vI x4), none, none]) (st' := [vR 8 v_7]) (And.intro (Or.inl rfl) (And.intro (Or.inl rfl) (And.intro (Or.inl rfl) (trivial)))) (And.intro (Or.inl rfl) (trivial)) ?_
    exact w_X35_between_75 w
  · refine jw_gen (ls' := _) (st' := [vR 6 r1, vR 21 (jar h (jfr h 111 r0) (ixn (2 : Int32)))]) (jgl_rf _ _) (And.intro (Or.inl rfl) (And.intro (Or.inr ⟨_, _, _, rfl, rfl, Or.inr (Or.inr (by rw [e_8]; rfl))⟩) (jgs_rf _ _))) ?_
    refine jw_cR (st := []) (sa := [vR 21 (jar h (jfr h 111 r0) (ixn (2 : Int32))), vR 6 r1]) okX27_at rfl rfl rfl rfl rfl rfl (jstp_up (sa := [vR 6 r1]) (st := []) rfl (lw_g (jtb_mem (c := 12) (i := 61) rfl) rfl) um29 okX27_at g_4 (fun _ _ => by rw [e_8]; exact ⟨rfl, rfl⟩) rfl rfl) (w.2.1 e_8) (fun v_7 h_5 _ _ _ w => ?_)
    refine jw_gen (ls' := [some (vR 29 r0), none, some (vR 8 r2), none, some (vI x4), none, none]) (st' := [vR 8 v_7]) (And.intro (Or.inl rfl) (And.intro (Or.inl rfl) (And.intro (Or.inl rfl) (trivial)))) (And.intro (Or.inl rfl) (trivial)) ?_
    exact w_X35_between_75 w
  · refine jw_gen (ls' := _) (st' := [vR 6 r1, vR 22 (jar h (jfr h 111 r0) (ixn (2 : Int32)))]) (jgl_rf _ _) (And.intro (Or.inl rfl) (And.intro (Or.inr ⟨_, _, _, rfl, rfl, Or.inr (Or.inr (by rw [e_8]; rfl))⟩) (jgs_rf _ _))) ?_
    refine jw_cR (st := []) (sa := [vR 22 (jar h (jfr h 111 r0) (ixn (2 : Int32))), vR 6 r1]) okX28_at rfl rfl rfl rfl rfl rfl (jstp_up (sa := [vR 6 r1]) (st := []) rfl (lw_g (jtb_mem (c := 12) (i := 61) rfl) rfl) um30 okX28_at g_4 (fun _ _ => by rw [e_8]; exact ⟨rfl, rfl⟩) rfl rfl) (w.2.2.1 e_8) (fun v_7 h_5 _ _ _ w => ?_)
    refine jw_gen (ls' := [some (vR 29 r0), none, some (vR 8 r2), none, some (vI x4), none, none]) (st' := [vR 8 v_7]) (And.intro (Or.inl rfl) (And.intro (Or.inl rfl) (And.intro (Or.inl rfl) (trivial)))) (And.intro (Or.inl rfl) (trivial)) ?_
    exact w_X35_between_75 w
  · refine jw_gen (ls' := _) (st' := [vR 6 r1, vR 23 (jar h (jfr h 111 r0) (ixn (2 : Int32)))]) (jgl_rf _ _) (And.intro (Or.inl rfl) (And.intro (Or.inr ⟨_, _, _, rfl, rfl, Or.inr (Or.inr (by rw [e_8]; rfl))⟩) (jgs_rf _ _))) ?_
    refine jw_cR (st := []) (sa := [vR 23 (jar h (jfr h 111 r0) (ixn (2 : Int32))), vR 6 r1]) okX29_at rfl rfl rfl rfl rfl rfl (jstp_up (sa := [vR 6 r1]) (st := []) rfl (lw_g (jtb_mem (c := 12) (i := 61) rfl) rfl) um31 okX29_at g_4 (fun _ _ => by rw [e_8]; exact ⟨rfl, rfl⟩) rfl rfl) (w.2.2.2.1 e_8) (fun v_7 h_5 _ _ _ w => ?_)
    refine jw_gen (ls' := [some (vR 29 r0), none, some (vR 8 r2), none, some (vI x4), none, none]) (st' := [vR 8 v_7]) (And.intro (Or.inl rfl) (And.intro (Or.inl rfl) (And.intro (Or.inl rfl) (trivial)))) (And.intro (Or.inl rfl) (trivial)) ?_
    exact w_X35_between_75 w
  · refine jw_gen (ls' := _) (st' := [vR 6 r1, vR 24 (jar h (jfr h 111 r0) (ixn (2 : Int32)))]) (jgl_rf _ _) (And.intro (Or.inl rfl) (And.intro (Or.inr ⟨_, _, _, rfl, rfl, Or.inr (Or.inr (by rw [e_8]; rfl))⟩) (jgs_rf _ _))) ?_
    refine jw_cR (st := []) (sa := [vR 24 (jar h (jfr h 111 r0) (ixn (2 : Int32))), vR 6 r1]) okX30_at rfl rfl rfl rfl rfl rfl (jstp_up (sa := [vR 6 r1]) (st := []) rfl (lw_g (jtb_mem (c := 12) (i := 61) rfl) rfl) um32 okX30_at g_4 (fun _ _ => by rw [e_8]; exact ⟨rfl, rfl⟩) rfl rfl) (w.2.2.2.2.1 e_8) (fun v_7 h_5 _ _ _ w => ?_)
    refine jw_gen (ls' := [some (vR 29 r0), none, some (vR 8 r2), none, some (vI x4), none, none]) (st' := [vR 8 v_7]) (And.intro (Or.inl rfl) (And.intro (Or.inl rfl) (And.intro (Or.inl rfl) (trivial)))) (And.intro (Or.inl rfl) (trivial)) ?_
    exact w_X35_between_75 w
  · refine jw_gen (ls' := _) (st' := [vR 6 r1, vR 25 (jar h (jfr h 111 r0) (ixn (2 : Int32)))]) (jgl_rf _ _) (And.intro (Or.inl rfl) (And.intro (Or.inr ⟨_, _, _, rfl, rfl, Or.inr (Or.inr (by rw [e_8]; rfl))⟩) (jgs_rf _ _))) ?_
    refine jw_cR (st := []) (sa := [vR 25 (jar h (jfr h 111 r0) (ixn (2 : Int32))), vR 6 r1]) okX31_at rfl rfl rfl rfl rfl rfl (jstp_up (sa := [vR 6 r1]) (st := []) rfl (lw_g (jtb_mem (c := 12) (i := 61) rfl) rfl) um33 okX31_at g_4 (fun _ _ => by rw [e_8]; exact ⟨rfl, rfl⟩) rfl rfl) (w.2.2.2.2.2.1 e_8) (fun v_7 h_5 _ _ _ w => ?_)
    refine jw_gen (ls' := [some (vR 29 r0), none, some (vR 8 r2), none, some (vI x4), none, none]) (st' := [vR 8 v_7]) (And.intro (Or.inl rfl) (And.intro (Or.inl rfl) (And.intro (Or.inl rfl) (trivial)))) (And.intro (Or.inl rfl) (trivial)) ?_
    exact w_X35_between_75 w
  · refine jw_gen (ls' := _) (st' := [vR 6 r1, vR 26 (jar h (jfr h 111 r0) (ixn (2 : Int32)))]) (jgl_rf _ _) (And.intro (Or.inl rfl) (And.intro (Or.inr ⟨_, _, _, rfl, rfl, Or.inr (Or.inr (by rw [e_8]; rfl))⟩) (jgs_rf _ _))) ?_
    refine jw_cR (st := []) (sa := [vR 26 (jar h (jfr h 111 r0) (ixn (2 : Int32))), vR 6 r1]) okX32_at rfl rfl rfl rfl rfl rfl (jstp_up (sa := [vR 6 r1]) (st := []) rfl (lw_g (jtb_mem (c := 12) (i := 61) rfl) rfl) um34 okX32_at g_4 (fun _ _ => by rw [e_8]; exact ⟨rfl, rfl⟩) rfl rfl) (w.2.2.2.2.2.2.1 e_8) (fun v_7 h_5 _ _ _ w => ?_)
    refine jw_gen (ls' := [some (vR 29 r0), none, some (vR 8 r2), none, some (vI x4), none, none]) (st' := [vR 8 v_7]) (And.intro (Or.inl rfl) (And.intro (Or.inl rfl) (And.intro (Or.inl rfl) (trivial)))) (And.intro (Or.inl rfl) (trivial)) ?_
    exact w_X35_between_75 w
  · refine jw_gen (ls' := _) (st' := [vR 6 r1, vR 27 (jar h (jfr h 111 r0) (ixn (2 : Int32)))]) (jgl_rf _ _) (And.intro (Or.inl rfl) (And.intro (Or.inr ⟨_, _, _, rfl, rfl, Or.inr (Or.inr (by rw [e_8]; rfl))⟩) (jgs_rf _ _))) ?_
    refine jw_cR (st := []) (sa := [vR 27 (jar h (jfr h 111 r0) (ixn (2 : Int32))), vR 6 r1]) okX33_at rfl rfl rfl rfl rfl rfl (jstp_up (sa := [vR 6 r1]) (st := []) rfl (lw_g (jtb_mem (c := 12) (i := 61) rfl) rfl) um35 okX33_at g_4 (fun _ _ => by rw [e_8]; exact ⟨rfl, rfl⟩) rfl rfl) (w.2.2.2.2.2.2.2.1 e_8) (fun v_7 h_5 _ _ _ w => ?_)
    refine jw_gen (ls' := [some (vR 29 r0), none, some (vR 8 r2), none, some (vI x4), none, none]) (st' := [vR 8 v_7]) (And.intro (Or.inl rfl) (And.intro (Or.inl rfl) (And.intro (Or.inl rfl) (trivial)))) (And.intro (Or.inl rfl) (trivial)) ?_
    exact w_X35_between_75 w
  · refine jw_gen (ls' := _) (st' := [vR 6 r1, vR 28 (jar h (jfr h 111 r0) (ixn (2 : Int32)))]) (jgl_rf _ _) (And.intro (Or.inl rfl) (And.intro (Or.inr ⟨_, _, _, rfl, rfl, Or.inr (Or.inr (by rw [e_8]; rfl))⟩) (jgs_rf _ _))) ?_
    refine jw_cR (st := []) (sa := [vR 28 (jar h (jfr h 111 r0) (ixn (2 : Int32))), vR 6 r1]) okX34_at rfl rfl rfl rfl rfl rfl (jstp_up (sa := [vR 6 r1]) (st := []) rfl (lw_g (jtb_mem (c := 12) (i := 61) rfl) rfl) um36 okX34_at g_4 (fun _ _ => by rw [e_8]; exact ⟨rfl, rfl⟩) rfl rfl) (w.2.2.2.2.2.2.2.2.1 e_8) (fun v_7 h_5 _ _ _ w => ?_)
    refine jw_gen (ls' := [some (vR 29 r0), none, some (vR 8 r2), none, some (vI x4), none, none]) (st' := [vR 8 v_7]) (And.intro (Or.inl rfl) (And.intro (Or.inl rfl) (And.intro (Or.inl rfl) (trivial)))) (And.intro (Or.inl rfl) (trivial)) ?_
    exact w_X35_between_75 w
  · refine jw_gen (ls' := _) (st' := [vR 6 r1, vR 29 (jar h (jfr h 111 r0) (ixn (2 : Int32)))]) (jgl_rf _ _) (And.intro (Or.inl rfl) (And.intro (Or.inr ⟨_, _, _, rfl, rfl, Or.inr (Or.inr (by rw [e_8]; rfl))⟩) (jgs_rf _ _))) ?_
    refine jw_cR (st := []) (sa := [vR 29 (jar h (jfr h 111 r0) (ixn (2 : Int32))), vR 6 r1]) okX35_at rfl rfl rfl rfl rfl rfl (jstp_up (sa := [vR 6 r1]) (st := []) rfl (lw_g (jtb_mem (c := 12) (i := 61) rfl) rfl) um37 okX35_at g_4 (fun _ _ => by rw [e_8]; exact ⟨rfl, rfl⟩) rfl rfl) (w.2.2.2.2.2.2.2.2.2 e_8) (fun v_7 h_5 _ _ _ w => ?_)
    refine jw_gen (ls' := [some (vR 29 r0), none, some (vR 8 r2), none, some (vI x4), none, none]) (st' := [vR 8 v_7]) (And.intro (Or.inl rfl) (And.intro (Or.inl rfl) (And.intro (Or.inl rfl) (trivial)))) (And.intro (Or.inl rfl) (trivial)) ?_
    exact w_X35_between_75 w
def W_X35_between_41 (D : JD) (d : Nat) (Q : JO → JH → Prop) (r0 : Nat) (r1 : Nat) (r2 : Nat) (r3 : Nat) (s0 : Int32) (h : JH) : Prop :=
  (¬ s0 = 0 → W_X35_between_65 D d Q r0 r1 r2 s0 h) ∧ (s0 = 0 → r2 ≠ 0 ∧ (cX14_order D d r2 r3 h (pI D h (fun v_5 h_3 => (0 ≤ v_5 → W_X35_between_65 D d Q r0 r1 r2 s0 h_3) ∧ (¬ 0 ≤ v_5 → r0 ≠ 0 ∧ ((jfr h_3 108 r0) ≠ 0 ∧ (cX14_truth D d (jfr h_3 108 r0) (0 : Int32) h_3 (pR D h_3 8 (fun v_11 h_9 => Q (.inl (some (vR 8 v_11))) h_9) (jth Q)))))) (jth Q))))
theorem w_X35_between_41 {D : JD} {d : Nat} {Q : JO → JH → Prop} {r0 : Nat} {r1 : Nat} {r2 : Nat} {r3 : Nat} {s0 : Int32} {h : JH} (w : W_X35_between_41 D d Q r0 r1 r2 r3 s0 h) : JW D (d + 1) mX35_between 41 [some (vR 29 r0), some (vR 6 r1), some (vR 8 r2), some (vR 8 r3), none, none, none] [vI s0] h Q := by
  unfold W_X35_between_41 at w
  refine jw_istore (pc' := 43) (ls' := [some (vR 29 r0), some (vR 6 r1), some (vR 8 r2), some (vR 8 r3), some (vI s0), none, none]) rfl (by decide) rfl ?_
  refine jw_iload (pc' := 45) rfl rfl ?_
  refine jw_if_ne (tgt := 65) (pc' := 48) rfl rfl (fun c_1 => ?_) (fun c_1 => ?_)
  · replace w := w.1 c_1
    refine jw_gen (ls' := [some (vR 29 r0), some (vR 6 r1), some (vR 8 r2), none, some (vI s0), none, none]) (st' := []) (And.intro (Or.inl rfl) (And.intro (Or.inl rfl) (And.intro (Or.inl rfl) (And.intro (Or.inl rfl) (trivial))))) (trivial) ?_
    exact w_X35_between_65 w
  · replace w := w.2 c_1
    refine jw_aload_n (pc' := 49) rfl rfl ?_
    refine jw_aload_n (pc' := 50) rfl rfl ?_
    obtain ⟨g_2, w⟩ := w
    refine jw_cI (st := []) (sa := [vR 8 r2, vR 8 r3]) okX14_order rfl rfl rfl rfl rfl rfl (jstp_virtual (sa := [vR 8 r3]) (st := []) (k := 0) rfl rfl sX14_order okX14_order g_2 (one8.k g_2) rfl rfl) w (fun v_5 h_3 _ _ w => ?_)
    refine jw_if_ge (tgt := 65) (pc' := 56) rfl rfl (fun c_6 => ?_) (fun c_6 => ?_)
    · replace w := w.1 c_6
      refine jw_gen (ls' := [some (vR 29 r0), some (vR 6 r1), some (vR 8 r2), none, some (vI s0), none, none]) (st' := []) (And.intro (Or.inl rfl) (And.intro (Or.inl rfl) (And.intro (Or.inl rfl) (And.intro (Or.inl rfl) (trivial))))) (trivial) ?_
      exact w_X35_between_65 w
    · replace w := w.2 c_6
      refine jw_aload_n (pc' := 57) rfl rfl ?_
      obtain ⟨g_7, w⟩ := w
      refine jw_getR (pc' := 60) (F := 108) (t' := 98) rfl rfl rfl rfl rfl g_7 ?_
      refine jw_iconst (pc' := 61) (x := (0 : Int32)) rfl rfl ?_
      obtain ⟨g_8, w⟩ := w
      refine jw_cR (st := []) (sa := [vR 98 (jfr h_3 108 r0), vI (0 : Int32)]) okX14_truth rfl rfl rfl rfl rfl rfl (jstp_virtual (sa := [vI (0 : Int32)]) (st := []) (k := 0) rfl rfl sX14_truth okX14_truth g_8 (one98.k g_8) rfl rfl) w (fun v_11 h_9 _ _ _ w => ?_)
      exact jw_areturn rfl rfl rfl rfl rfl w
def W_X35_between_36 (D : JD) (d : Nat) (Q : JO → JH → Prop) (r0 : Nat) (r1 : Nat) (r2 : Nat) (r3 : Nat) (h : JH) : Prop :=
  W_X35_between_41 D d Q r0 r1 r2 r3 (1 : Int32) h
theorem w_X35_between_36 {D : JD} {d : Nat} {Q : JO → JH → Prop} {r0 : Nat} {r1 : Nat} {r2 : Nat} {r3 : Nat} {h : JH} (w : W_X35_between_36 D d Q r0 r1 r2 r3 h) : JW D (d + 1) mX35_between 36 [some (vR 29 r0), some (vR 6 r1), some (vR 8 r2), some (vR 8 r3), none, none, none] [] h Q := by
  unfold W_X35_between_36 at w
  refine jw_iconst (pc' := 37) (x := (1 : Int32)) rfl rfl ?_
  refine jw_goto (pc' := 41) rfl rfl ?_
  exact w_X35_between_41 w
def W_X35_between_21 (D : JD) (d : Nat) (Q : JO → JH → Prop) (r0 : Nat) (r1 : Nat) (r2 : Nat) (q0 : Nat) (h : JH) : Prop :=
  r2 ≠ 0 ∧ (cX14_isEmpty D d r2 h (pI D h (fun v_4 h_2 => (¬ v_4 = 0 → W_X35_between_36 D d Q r0 r1 r2 q0 h_2) ∧ (v_4 = 0 → q0 ≠ 0 ∧ (cX14_isEmpty D d q0 h_2 (pI D h_2 (fun v_9 h_7 => (v_9 = 0 → W_X35_between_41 D d Q r0 r1 r2 q0 (0 : Int32) h_7) ∧ (¬ v_9 = 0 → W_X35_between_36 D d Q r0 r1 r2 q0 h_7)) (jth Q))))) (jth Q)))
theorem w_X35_between_21 {D : JD} {d : Nat} {Q : JO → JH → Prop} {r0 : Nat} {r1 : Nat} {r2 : Nat} {q0 : Nat} {h : JH} (w : W_X35_between_21 D d Q r0 r1 r2 q0 h) : JW D (d + 1) mX35_between 21 [some (vR 29 r0), some (vR 6 r1), some (vR 8 r2), none, none, none, none] [vR 8 q0] h Q := by
  unfold W_X35_between_21 at w
  refine jw_astore_n (pc' := 22) (ls' := [some (vR 29 r0), some (vR 6 r1), some (vR 8 r2), some (vR 8 q0), none, none, none]) rfl (by decide) rfl ?_
  refine jw_aload_n (pc' := 23) rfl rfl ?_
  obtain ⟨g_1, w⟩ := w
  refine jw_cI (st := []) (sa := [vR 8 r2]) okX14_isEmpty rfl rfl rfl rfl rfl rfl (jstp_virtual (sa := []) (st := []) (k := 0) rfl rfl sX14_isEmpty okX14_isEmpty g_1 (one8.k g_1) rfl rfl) w (fun v_4 h_2 _ _ w => ?_)
  refine jw_if_ne (tgt := 36) (pc' := 29) rfl rfl (fun c_5 => ?_) (fun c_5 => ?_)
  · replace w := w.1 c_5
    exact w_X35_between_36 w
  · replace w := w.2 c_5
    refine jw_aload_n (pc' := 30) rfl rfl ?_
    obtain ⟨g_6, w⟩ := w
    refine jw_cI (st := []) (sa := [vR 8 q0]) okX14_isEmpty rfl rfl rfl rfl rfl rfl (jstp_virtual (sa := []) (st := []) (k := 0) rfl rfl sX14_isEmpty okX14_isEmpty g_6 (one8.k g_6) rfl rfl) w (fun v_9 h_7 _ _ w => ?_)
    refine jw_if_eq (tgt := 40) (pc' := 36) rfl rfl (fun c_10 => ?_) (fun c_10 => ?_)
    · replace w := w.1 c_10
      refine jw_iconst (pc' := 41) (x := (0 : Int32)) rfl rfl ?_
      exact w_X35_between_41 w
    · replace w := w.2 c_10
      exact w_X35_between_36 w
def W_X35_between_10 (D : JD) (d : Nat) (Q : JO → JH → Prop) (r0 : Nat) (r1 : Nat) (q0 : Nat) (h : JH) : Prop :=
  r0 ≠ 0 ∧ ((jfr h 111 r0) ≠ 0 ∧ jin (1 : Int32) (jln h (jfr h 111 r0)) ∧ ((jar h (jfr h 111 r0) (ixn (1 : Int32))) ≠ 0 ∧ (v55_at D d (jar h (jfr h 111 r0) (ixn (1 : Int32))) r1 h (pR D h 8 (fun v_7 h_5 => W_X35_between_21 D d Q r0 r1 q0 v_7 h_5) (jth Q)))))
theorem w_X35_between_10 {D : JD} {d : Nat} {Q : JO → JH → Prop} {r0 : Nat} {r1 : Nat} {q0 : Nat} {h : JH} (w : W_X35_between_10 D d Q r0 r1 q0 h) : JW D (d + 1) mX35_between 10 [some (vR 29 r0), some (vR 6 r1), none, none, none, none, none] [vR 8 q0] h Q := by
  unfold W_X35_between_10 at w
  refine jw_astore_n (pc' := 11) (ls' := [some (vR 29 r0), some (vR 6 r1), some (vR 8 q0), none, none, none, none]) rfl (by decide) rfl ?_
  refine jw_aload_n (pc' := 12) rfl rfl ?_
  obtain ⟨g_1, w⟩ := w
  refine jw_getR (pc' := 15) (F := 111) (t' := 77) rfl rfl rfl rfl rfl g_1 ?_
  refine jw_iconst (pc' := 16) (x := (1 : Int32)) rfl rfl ?_
  obtain ⟨g_2, w⟩ := w
  obtain ⟨g_3, w⟩ := w
  refine jw_aald (pc' := 17) (t' := 55) rfl rfl rfl rfl g_2 g_3.ix g_3.2 ?_
  refine jw_aload_n (pc' := 18) rfl rfl ?_
  obtain ⟨g_4, w⟩ := w
  refine JW.inv (fun hI => JW.oks (fun ho => ?_))
  have hkd := und55.k hI (ho (vR 55 (jar h (jfr h 111 r0) (ixn (1 : Int32)))) (by simp)) g_4
  simp only [List.mem_cons, List.not_mem_nil, or_false] at hkd
  clear ho hI
  rcases hkd with e_8 | e_8 | e_8 | e_8 | e_8 | e_8 | e_8 | e_8 | e_8 | e_8
  · refine jw_gen (ls' := _) (st' := [vR 6 r1, vR 20 (jar h (jfr h 111 r0) (ixn (1 : Int32)))]) (jgl_rf _ _) (And.intro (Or.inl rfl) (And.intro (Or.inr ⟨_, _, _, rfl, rfl, Or.inr (Or.inr (by rw [e_8]; rfl))⟩) (jgs_rf _ _))) ?_
    refine jw_cR (st := []) (sa := [vR 20 (jar h (jfr h 111 r0) (ixn (1 : Int32))), vR 6 r1]) okX25_at rfl rfl rfl rfl rfl rfl (jstp_up (sa := [vR 6 r1]) (st := []) rfl (lw_g (jtb_mem (c := 12) (i := 61) rfl) rfl) um28 okX25_at g_4 (fun _ _ => by rw [e_8]; exact ⟨rfl, rfl⟩) rfl rfl) (w.1 e_8) (fun v_7 h_5 _ _ _ w => ?_)
    exact w_X35_between_21 w
  · refine jw_gen (ls' := _) (st' := [vR 6 r1, vR 21 (jar h (jfr h 111 r0) (ixn (1 : Int32)))]) (jgl_rf _ _) (And.intro (Or.inl rfl) (And.intro (Or.inr ⟨_, _, _, rfl, rfl, Or.inr (Or.inr (by rw [e_8]; rfl))⟩) (jgs_rf _ _))) ?_
    refine jw_cR (st := []) (sa := [vR 21 (jar h (jfr h 111 r0) (ixn (1 : Int32))), vR 6 r1]) okX27_at rfl rfl rfl rfl rfl rfl (jstp_up (sa := [vR 6 r1]) (st := []) rfl (lw_g (jtb_mem (c := 12) (i := 61) rfl) rfl) um29 okX27_at g_4 (fun _ _ => by rw [e_8]; exact ⟨rfl, rfl⟩) rfl rfl) (w.2.1 e_8) (fun v_7 h_5 _ _ _ w => ?_)
    exact w_X35_between_21 w
  · refine jw_gen (ls' := _) (st' := [vR 6 r1, vR 22 (jar h (jfr h 111 r0) (ixn (1 : Int32)))]) (jgl_rf _ _) (And.intro (Or.inl rfl) (And.intro (Or.inr ⟨_, _, _, rfl, rfl, Or.inr (Or.inr (by rw [e_8]; rfl))⟩) (jgs_rf _ _))) ?_
    refine jw_cR (st := []) (sa := [vR 22 (jar h (jfr h 111 r0) (ixn (1 : Int32))), vR 6 r1]) okX28_at rfl rfl rfl rfl rfl rfl (jstp_up (sa := [vR 6 r1]) (st := []) rfl (lw_g (jtb_mem (c := 12) (i := 61) rfl) rfl) um30 okX28_at g_4 (fun _ _ => by rw [e_8]; exact ⟨rfl, rfl⟩) rfl rfl) (w.2.2.1 e_8) (fun v_7 h_5 _ _ _ w => ?_)
    exact w_X35_between_21 w
  · refine jw_gen (ls' := _) (st' := [vR 6 r1, vR 23 (jar h (jfr h 111 r0) (ixn (1 : Int32)))]) (jgl_rf _ _) (And.intro (Or.inl rfl) (And.intro (Or.inr ⟨_, _, _, rfl, rfl, Or.inr (Or.inr (by rw [e_8]; rfl))⟩) (jgs_rf _ _))) ?_
    refine jw_cR (st := []) (sa := [vR 23 (jar h (jfr h 111 r0) (ixn (1 : Int32))), vR 6 r1]) okX29_at rfl rfl rfl rfl rfl rfl (jstp_up (sa := [vR 6 r1]) (st := []) rfl (lw_g (jtb_mem (c := 12) (i := 61) rfl) rfl) um31 okX29_at g_4 (fun _ _ => by rw [e_8]; exact ⟨rfl, rfl⟩) rfl rfl) (w.2.2.2.1 e_8) (fun v_7 h_5 _ _ _ w => ?_)
    exact w_X35_between_21 w
  · refine jw_gen (ls' := _) (st' := [vR 6 r1, vR 24 (jar h (jfr h 111 r0) (ixn (1 : Int32)))]) (jgl_rf _ _) (And.intro (Or.inl rfl) (And.intro (Or.inr ⟨_, _, _, rfl, rfl, Or.inr (Or.inr (by rw [e_8]; rfl))⟩) (jgs_rf _ _))) ?_
    refine jw_cR (st := []) (sa := [vR 24 (jar h (jfr h 111 r0) (ixn (1 : Int32))), vR 6 r1]) okX30_at rfl rfl rfl rfl rfl rfl (jstp_up (sa := [vR 6 r1]) (st := []) rfl (lw_g (jtb_mem (c := 12) (i := 61) rfl) rfl) um32 okX30_at g_4 (fun _ _ => by rw [e_8]; exact ⟨rfl, rfl⟩) rfl rfl) (w.2.2.2.2.1 e_8) (fun v_7 h_5 _ _ _ w => ?_)
    exact w_X35_between_21 w
  · refine jw_gen (ls' := _) (st' := [vR 6 r1, vR 25 (jar h (jfr h 111 r0) (ixn (1 : Int32)))]) (jgl_rf _ _) (And.intro (Or.inl rfl) (And.intro (Or.inr ⟨_, _, _, rfl, rfl, Or.inr (Or.inr (by rw [e_8]; rfl))⟩) (jgs_rf _ _))) ?_
    refine jw_cR (st := []) (sa := [vR 25 (jar h (jfr h 111 r0) (ixn (1 : Int32))), vR 6 r1]) okX31_at rfl rfl rfl rfl rfl rfl (jstp_up (sa := [vR 6 r1]) (st := []) rfl (lw_g (jtb_mem (c := 12) (i := 61) rfl) rfl) um33 okX31_at g_4 (fun _ _ => by rw [e_8]; exact ⟨rfl, rfl⟩) rfl rfl) (w.2.2.2.2.2.1 e_8) (fun v_7 h_5 _ _ _ w => ?_)
    exact w_X35_between_21 w
  · refine jw_gen (ls' := _) (st' := [vR 6 r1, vR 26 (jar h (jfr h 111 r0) (ixn (1 : Int32)))]) (jgl_rf _ _) (And.intro (Or.inl rfl) (And.intro (Or.inr ⟨_, _, _, rfl, rfl, Or.inr (Or.inr (by rw [e_8]; rfl))⟩) (jgs_rf _ _))) ?_
    refine jw_cR (st := []) (sa := [vR 26 (jar h (jfr h 111 r0) (ixn (1 : Int32))), vR 6 r1]) okX32_at rfl rfl rfl rfl rfl rfl (jstp_up (sa := [vR 6 r1]) (st := []) rfl (lw_g (jtb_mem (c := 12) (i := 61) rfl) rfl) um34 okX32_at g_4 (fun _ _ => by rw [e_8]; exact ⟨rfl, rfl⟩) rfl rfl) (w.2.2.2.2.2.2.1 e_8) (fun v_7 h_5 _ _ _ w => ?_)
    exact w_X35_between_21 w
  · refine jw_gen (ls' := _) (st' := [vR 6 r1, vR 27 (jar h (jfr h 111 r0) (ixn (1 : Int32)))]) (jgl_rf _ _) (And.intro (Or.inl rfl) (And.intro (Or.inr ⟨_, _, _, rfl, rfl, Or.inr (Or.inr (by rw [e_8]; rfl))⟩) (jgs_rf _ _))) ?_
    refine jw_cR (st := []) (sa := [vR 27 (jar h (jfr h 111 r0) (ixn (1 : Int32))), vR 6 r1]) okX33_at rfl rfl rfl rfl rfl rfl (jstp_up (sa := [vR 6 r1]) (st := []) rfl (lw_g (jtb_mem (c := 12) (i := 61) rfl) rfl) um35 okX33_at g_4 (fun _ _ => by rw [e_8]; exact ⟨rfl, rfl⟩) rfl rfl) (w.2.2.2.2.2.2.2.1 e_8) (fun v_7 h_5 _ _ _ w => ?_)
    exact w_X35_between_21 w
  · refine jw_gen (ls' := _) (st' := [vR 6 r1, vR 28 (jar h (jfr h 111 r0) (ixn (1 : Int32)))]) (jgl_rf _ _) (And.intro (Or.inl rfl) (And.intro (Or.inr ⟨_, _, _, rfl, rfl, Or.inr (Or.inr (by rw [e_8]; rfl))⟩) (jgs_rf _ _))) ?_
    refine jw_cR (st := []) (sa := [vR 28 (jar h (jfr h 111 r0) (ixn (1 : Int32))), vR 6 r1]) okX34_at rfl rfl rfl rfl rfl rfl (jstp_up (sa := [vR 6 r1]) (st := []) rfl (lw_g (jtb_mem (c := 12) (i := 61) rfl) rfl) um36 okX34_at g_4 (fun _ _ => by rw [e_8]; exact ⟨rfl, rfl⟩) rfl rfl) (w.2.2.2.2.2.2.2.2.1 e_8) (fun v_7 h_5 _ _ _ w => ?_)
    exact w_X35_between_21 w
  · refine jw_gen (ls' := _) (st' := [vR 6 r1, vR 29 (jar h (jfr h 111 r0) (ixn (1 : Int32)))]) (jgl_rf _ _) (And.intro (Or.inl rfl) (And.intro (Or.inr ⟨_, _, _, rfl, rfl, Or.inr (Or.inr (by rw [e_8]; rfl))⟩) (jgs_rf _ _))) ?_
    refine jw_cR (st := []) (sa := [vR 29 (jar h (jfr h 111 r0) (ixn (1 : Int32))), vR 6 r1]) okX35_at rfl rfl rfl rfl rfl rfl (jstp_up (sa := [vR 6 r1]) (st := []) rfl (lw_g (jtb_mem (c := 12) (i := 61) rfl) rfl) um37 okX35_at g_4 (fun _ _ => by rw [e_8]; exact ⟨rfl, rfl⟩) rfl rfl) (w.2.2.2.2.2.2.2.2.2 e_8) (fun v_7 h_5 _ _ _ w => ?_)
    exact w_X35_between_21 w
def W_X35_between_0 (D : JD) (d : Nat) (Q : JO → JH → Prop) (r0 : Nat) (r1 : Nat) (h : JH) : Prop :=
  r0 ≠ 0 ∧ ((jfr h 111 r0) ≠ 0 ∧ jin (0 : Int32) (jln h (jfr h 111 r0)) ∧ ((jar h (jfr h 111 r0) (ixn (0 : Int32))) ≠ 0 ∧ (v55_at D d (jar h (jfr h 111 r0) (ixn (0 : Int32))) r1 h (pR D h 8 (fun v_7 h_5 => W_X35_between_10 D d Q r0 r1 v_7 h_5) (jth Q)))))
theorem w_X35_between_0 {D : JD} {d : Nat} {Q : JO → JH → Prop} {r0 : Nat} {r1 : Nat} {h : JH} (w : W_X35_between_0 D d Q r0 r1 h) : JW D (d + 1) mX35_between 0 [some (vR 29 r0), some (vR 6 r1), none, none, none, none, none] [] h Q := by
  unfold W_X35_between_0 at w
  refine jw_aload_n (pc' := 1) rfl rfl ?_
  obtain ⟨g_1, w⟩ := w
  refine jw_getR (pc' := 4) (F := 111) (t' := 77) rfl rfl rfl rfl rfl g_1 ?_
  refine jw_iconst (pc' := 5) (x := (0 : Int32)) rfl rfl ?_
  obtain ⟨g_2, w⟩ := w
  obtain ⟨g_3, w⟩ := w
  refine jw_aald (pc' := 6) (t' := 55) rfl rfl rfl rfl g_2 g_3.ix g_3.2 ?_
  refine jw_aload_n (pc' := 7) rfl rfl ?_
  obtain ⟨g_4, w⟩ := w
  refine JW.inv (fun hI => JW.oks (fun ho => ?_))
  have hkd := und55.k hI (ho (vR 55 (jar h (jfr h 111 r0) (ixn (0 : Int32)))) (by simp)) g_4
  simp only [List.mem_cons, List.not_mem_nil, or_false] at hkd
  clear ho hI
  rcases hkd with e_8 | e_8 | e_8 | e_8 | e_8 | e_8 | e_8 | e_8 | e_8 | e_8
  · refine jw_gen (ls' := _) (st' := [vR 6 r1, vR 20 (jar h (jfr h 111 r0) (ixn (0 : Int32)))]) (jgl_rf _ _) (And.intro (Or.inl rfl) (And.intro (Or.inr ⟨_, _, _, rfl, rfl, Or.inr (Or.inr (by rw [e_8]; rfl))⟩) (jgs_rf _ _))) ?_
    refine jw_cR (st := []) (sa := [vR 20 (jar h (jfr h 111 r0) (ixn (0 : Int32))), vR 6 r1]) okX25_at rfl rfl rfl rfl rfl rfl (jstp_up (sa := [vR 6 r1]) (st := []) rfl (lw_g (jtb_mem (c := 12) (i := 61) rfl) rfl) um28 okX25_at g_4 (fun _ _ => by rw [e_8]; exact ⟨rfl, rfl⟩) rfl rfl) (w.1 e_8) (fun v_7 h_5 _ _ _ w => ?_)
    exact w_X35_between_10 w
  · refine jw_gen (ls' := _) (st' := [vR 6 r1, vR 21 (jar h (jfr h 111 r0) (ixn (0 : Int32)))]) (jgl_rf _ _) (And.intro (Or.inl rfl) (And.intro (Or.inr ⟨_, _, _, rfl, rfl, Or.inr (Or.inr (by rw [e_8]; rfl))⟩) (jgs_rf _ _))) ?_
    refine jw_cR (st := []) (sa := [vR 21 (jar h (jfr h 111 r0) (ixn (0 : Int32))), vR 6 r1]) okX27_at rfl rfl rfl rfl rfl rfl (jstp_up (sa := [vR 6 r1]) (st := []) rfl (lw_g (jtb_mem (c := 12) (i := 61) rfl) rfl) um29 okX27_at g_4 (fun _ _ => by rw [e_8]; exact ⟨rfl, rfl⟩) rfl rfl) (w.2.1 e_8) (fun v_7 h_5 _ _ _ w => ?_)
    exact w_X35_between_10 w
  · refine jw_gen (ls' := _) (st' := [vR 6 r1, vR 22 (jar h (jfr h 111 r0) (ixn (0 : Int32)))]) (jgl_rf _ _) (And.intro (Or.inl rfl) (And.intro (Or.inr ⟨_, _, _, rfl, rfl, Or.inr (Or.inr (by rw [e_8]; rfl))⟩) (jgs_rf _ _))) ?_
    refine jw_cR (st := []) (sa := [vR 22 (jar h (jfr h 111 r0) (ixn (0 : Int32))), vR 6 r1]) okX28_at rfl rfl rfl rfl rfl rfl (jstp_up (sa := [vR 6 r1]) (st := []) rfl (lw_g (jtb_mem (c := 12) (i := 61) rfl) rfl) um30 okX28_at g_4 (fun _ _ => by rw [e_8]; exact ⟨rfl, rfl⟩) rfl rfl) (w.2.2.1 e_8) (fun v_7 h_5 _ _ _ w => ?_)
    exact w_X35_between_10 w
  · refine jw_gen (ls' := _) (st' := [vR 6 r1, vR 23 (jar h (jfr h 111 r0) (ixn (0 : Int32)))]) (jgl_rf _ _) (And.intro (Or.inl rfl) (And.intro (Or.inr ⟨_, _, _, rfl, rfl, Or.inr (Or.inr (by rw [e_8]; rfl))⟩) (jgs_rf _ _))) ?_
    refine jw_cR (st := []) (sa := [vR 23 (jar h (jfr h 111 r0) (ixn (0 : Int32))), vR 6 r1]) okX29_at rfl rfl rfl rfl rfl rfl (jstp_up (sa := [vR 6 r1]) (st := []) rfl (lw_g (jtb_mem (c := 12) (i := 61) rfl) rfl) um31 okX29_at g_4 (fun _ _ => by rw [e_8]; exact ⟨rfl, rfl⟩) rfl rfl) (w.2.2.2.1 e_8) (fun v_7 h_5 _ _ _ w => ?_)
    exact w_X35_between_10 w
  · refine jw_gen (ls' := _) (st' := [vR 6 r1, vR 24 (jar h (jfr h 111 r0) (ixn (0 : Int32)))]) (jgl_rf _ _) (And.intro (Or.inl rfl) (And.intro (Or.inr ⟨_, _, _, rfl, rfl, Or.inr (Or.inr (by rw [e_8]; rfl))⟩) (jgs_rf _ _))) ?_
    refine jw_cR (st := []) (sa := [vR 24 (jar h (jfr h 111 r0) (ixn (0 : Int32))), vR 6 r1]) okX30_at rfl rfl rfl rfl rfl rfl (jstp_up (sa := [vR 6 r1]) (st := []) rfl (lw_g (jtb_mem (c := 12) (i := 61) rfl) rfl) um32 okX30_at g_4 (fun _ _ => by rw [e_8]; exact ⟨rfl, rfl⟩) rfl rfl) (w.2.2.2.2.1 e_8) (fun v_7 h_5 _ _ _ w => ?_)
    exact w_X35_between_10 w
  · refine jw_gen (ls' := _) (st' := [vR 6 r1, vR 25 (jar h (jfr h 111 r0) (ixn (0 : Int32)))]) (jgl_rf _ _) (And.intro (Or.inl rfl) (And.intro (Or.inr ⟨_, _, _, rfl, rfl, Or.inr (Or.inr (by rw [e_8]; rfl))⟩) (jgs_rf _ _))) ?_
    refine jw_cR (st := []) (sa := [vR 25 (jar h (jfr h 111 r0) (ixn (0 : Int32))), vR 6 r1]) okX31_at rfl rfl rfl rfl rfl rfl (jstp_up (sa := [vR 6 r1]) (st := []) rfl (lw_g (jtb_mem (c := 12) (i := 61) rfl) rfl) um33 okX31_at g_4 (fun _ _ => by rw [e_8]; exact ⟨rfl, rfl⟩) rfl rfl) (w.2.2.2.2.2.1 e_8) (fun v_7 h_5 _ _ _ w => ?_)
    exact w_X35_between_10 w
  · refine jw_gen (ls' := _) (st' := [vR 6 r1, vR 26 (jar h (jfr h 111 r0) (ixn (0 : Int32)))]) (jgl_rf _ _) (And.intro (Or.inl rfl) (And.intro (Or.inr ⟨_, _, _, rfl, rfl, Or.inr (Or.inr (by rw [e_8]; rfl))⟩) (jgs_rf _ _))) ?_
    refine jw_cR (st := []) (sa := [vR 26 (jar h (jfr h 111 r0) (ixn (0 : Int32))), vR 6 r1]) okX32_at rfl rfl rfl rfl rfl rfl (jstp_up (sa := [vR 6 r1]) (st := []) rfl (lw_g (jtb_mem (c := 12) (i := 61) rfl) rfl) um34 okX32_at g_4 (fun _ _ => by rw [e_8]; exact ⟨rfl, rfl⟩) rfl rfl) (w.2.2.2.2.2.2.1 e_8) (fun v_7 h_5 _ _ _ w => ?_)
    exact w_X35_between_10 w
  · refine jw_gen (ls' := _) (st' := [vR 6 r1, vR 27 (jar h (jfr h 111 r0) (ixn (0 : Int32)))]) (jgl_rf _ _) (And.intro (Or.inl rfl) (And.intro (Or.inr ⟨_, _, _, rfl, rfl, Or.inr (Or.inr (by rw [e_8]; rfl))⟩) (jgs_rf _ _))) ?_
    refine jw_cR (st := []) (sa := [vR 27 (jar h (jfr h 111 r0) (ixn (0 : Int32))), vR 6 r1]) okX33_at rfl rfl rfl rfl rfl rfl (jstp_up (sa := [vR 6 r1]) (st := []) rfl (lw_g (jtb_mem (c := 12) (i := 61) rfl) rfl) um35 okX33_at g_4 (fun _ _ => by rw [e_8]; exact ⟨rfl, rfl⟩) rfl rfl) (w.2.2.2.2.2.2.2.1 e_8) (fun v_7 h_5 _ _ _ w => ?_)
    exact w_X35_between_10 w
  · refine jw_gen (ls' := _) (st' := [vR 6 r1, vR 28 (jar h (jfr h 111 r0) (ixn (0 : Int32)))]) (jgl_rf _ _) (And.intro (Or.inl rfl) (And.intro (Or.inr ⟨_, _, _, rfl, rfl, Or.inr (Or.inr (by rw [e_8]; rfl))⟩) (jgs_rf _ _))) ?_
    refine jw_cR (st := []) (sa := [vR 28 (jar h (jfr h 111 r0) (ixn (0 : Int32))), vR 6 r1]) okX34_at rfl rfl rfl rfl rfl rfl (jstp_up (sa := [vR 6 r1]) (st := []) rfl (lw_g (jtb_mem (c := 12) (i := 61) rfl) rfl) um36 okX34_at g_4 (fun _ _ => by rw [e_8]; exact ⟨rfl, rfl⟩) rfl rfl) (w.2.2.2.2.2.2.2.2.1 e_8) (fun v_7 h_5 _ _ _ w => ?_)
    exact w_X35_between_10 w
  · refine jw_gen (ls' := _) (st' := [vR 6 r1, vR 29 (jar h (jfr h 111 r0) (ixn (0 : Int32)))]) (jgl_rf _ _) (And.intro (Or.inl rfl) (And.intro (Or.inr ⟨_, _, _, rfl, rfl, Or.inr (Or.inr (by rw [e_8]; rfl))⟩) (jgs_rf _ _))) ?_
    refine jw_cR (st := []) (sa := [vR 29 (jar h (jfr h 111 r0) (ixn (0 : Int32))), vR 6 r1]) okX35_at rfl rfl rfl rfl rfl rfl (jstp_up (sa := [vR 6 r1]) (st := []) rfl (lw_g (jtb_mem (c := 12) (i := 61) rfl) rfl) um37 okX35_at g_4 (fun _ _ => by rw [e_8]; exact ⟨rfl, rfl⟩) rfl rfl) (w.2.2.2.2.2.2.2.2.2 e_8) (fun v_7 h_5 _ _ _ w => ?_)
    exact w_X35_between_10 w
def T_X35_between (D : JD) (d : Nat) (Q : JO → JH → Prop) (r0 : Nat) (r1 : Nat) (h : JH) : Prop := W_X35_between_0 D d Q r0 r1 h
theorem t_X35_between {D : JD} {d : Nat} {Q : JO → JH → Prop} {r0 : Nat} {r1 : Nat} {h : JH} (w : T_X35_between D d Q r0 r1 h) : cX35_between D (d + 1) r0 r1 h Q := by
  unfold T_X35_between at w
  unfold cX35_between
  exact w_X35_between_0 w
def W_X35_among_104 (D : JD) (d : Nat) (Q : JO → JH → Prop) (q0 : Nat) (h : JH) : Prop :=
  Q (.inl (some (vR 8 q0))) h
theorem w_X35_among_104 {D : JD} {d : Nat} {Q : JO → JH → Prop} {q0 : Nat} {h : JH} (w : W_X35_among_104 D d Q q0 h) : JW D (d + 1) mX35_among 104 [none, none, none, none, none, none] [vR 8 q0] h Q := by
  unfold W_X35_among_104 at w
  exact jw_areturn rfl rfl rfl rfl rfl w
def W_X35_among_76 (D : JD) (d : Nat) (Q : JO → JH → Prop) (K16 : Nat → Nat → Nat → Int32 → Int32 → JH → Prop) (r0 : Nat) (r1 : Nat) (r2 : Nat) (x3 : Int32) (x4 : Int32) (h : JH) : Prop :=
  K16 r0 r1 r2 x3 (x4 + (1 : Int32)) h
theorem w_X35_among_76 {D : JD} {d : Nat} {Q : JO → JH → Prop} {K16 : Nat → Nat → Nat → Int32 → Int32 → JH → Prop} {r0 : Nat} {r1 : Nat} {r2 : Nat} {x3 : Int32} {x4 : Int32} {h : JH} (hK16 : ∀ (r0 : Nat) (r1 : Nat) (r2 : Nat) (x3 : Int32) (x4 : Int32) (h : JH), K16 r0 r1 r2 x3 x4 h → JW D (d + 1) mX35_among 16 [some (vR 29 r0), some (vR 6 r1), some (vR 8 r2), some (vI x3), some (vI x4), none] [] h Q) (w : W_X35_among_76 D d Q K16 r0 r1 r2 x3 x4 h) : JW D (d + 1) mX35_among 76 [some (vR 29 r0), some (vR 6 r1), some (vR 8 r2), some (vI x3), some (vI x4), none] [] h Q := by
  unfold W_X35_among_76 at w
  refine jw_iinc (pc' := 79) (y := x4 + (1 : Int32)) (ls' := [some (vR 29 r0), some (vR 6 r1), some (vR 8 r2), some (vI x3), some (vI (x4 + (1 : Int32))), none]) rfl (by decide) rfl rfl rfl ?_
  refine jw_goto (pc' := 16) rfl rfl ?_
  exact hK16 _ _ _ _ _ _ w
def W_X35_among_53 (D : JD) (d : Nat) (Q : JO → JH → Prop) (K16 : Nat → Nat → Nat → Int32 → Int32 → JH → Prop) (r0 : Nat) (r1 : Nat) (r2 : Nat) (x4 : Int32) (h : JH) : Prop :=
  W_X35_among_76 D d Q K16 r0 r1 r2 (1 : Int32) x4 h
theorem w_X35_among_53 {D : JD} {d : Nat} {Q : JO → JH → Prop} {K16 : Nat → Nat → Nat → Int32 → Int32 → JH → Prop} {r0 : Nat} {r1 : Nat} {r2 : Nat} {x4 : Int32} {h : JH} (hK16 : ∀ (r0 : Nat) (r1 : Nat) (r2 : Nat) (x3 : Int32) (x4 : Int32) (h : JH), K16 r0 r1 r2 x3 x4 h → JW D (d + 1) mX35_among 16 [some (vR 29 r0), some (vR 6 r1), some (vR 8 r2), some (vI x3), some (vI x4), none] [] h Q) (w : W_X35_among_53 D d Q K16 r0 r1 r2 x4 h) : JW D (d + 1) mX35_among 53 [some (vR 29 r0), some (vR 6 r1), some (vR 8 r2), none, some (vI x4), none] [] h Q := by
  unfold W_X35_among_53 at w
  refine jw_iconst (pc' := 54) (x := (1 : Int32)) rfl rfl ?_
  refine jw_istore_n (pc' := 55) (ls' := [some (vR 29 r0), some (vR 6 r1), some (vR 8 r2), some (vI (1 : Int32)), some (vI x4), none]) rfl (by decide) rfl ?_
  refine jw_goto (pc' := 76) rfl rfl ?_
  exact w_X35_among_76 hK16 w
def W_X35_among_36 (D : JD) (d : Nat) (Q : JO → JH → Prop) (K16 : Nat → Nat → Nat → Int32 → Int32 → JH → Prop) (r0 : Nat) (r1 : Nat) (r2 : Nat) (x3 : Int32) (x4 : Int32) (q0 : Nat) (h : JH) : Prop :=
  r2 ≠ 0 ∧ (cX14_isEmpty D d r2 h (pI D h (fun v_4 h_2 => (¬ v_4 = 0 → W_X35_among_53 D d Q K16 r0 r1 r2 x4 h_2) ∧ (v_4 = 0 → q0 ≠ 0 ∧ (cX14_isEmpty D d q0 h_2 (pI D h_2 (fun v_9 h_7 => (v_9 = 0 → cX14_order D d r2 q0 h_7 (pI D h_7 (fun v_13 h_11 => (¬ v_13 = 0 → W_X35_among_76 D d Q K16 r0 r1 r2 x3 x4 h_11) ∧ (v_13 = 0 → r0 ≠ 0 ∧ ((jfr h_11 108 r0) ≠ 0 ∧ (cX14_truth D d (jfr h_11 108 r0) (1 : Int32) h_11 (pR D h_11 8 (fun v_19 h_17 => Q (.inl (some (vR 8 v_19))) h_17) (jth Q)))))) (jth Q))) ∧ (¬ v_9 = 0 → W_X35_among_53 D d Q K16 r0 r1 r2 x4 h_7)) (jth Q))))) (jth Q)))
theorem w_X35_among_36 {D : JD} {d : Nat} {Q : JO → JH → Prop} {K16 : Nat → Nat → Nat → Int32 → Int32 → JH → Prop} {r0 : Nat} {r1 : Nat} {r2 : Nat} {x3 : Int32} {x4 : Int32} {q0 : Nat} {h : JH} (hK16 : ∀ (r0 : Nat) (r1 : Nat) (r2 : Nat) (x3 : Int32) (x4 : Int32) (h : JH), K16 r0 r1 r2 x3 x4 h → JW D (d + 1) mX35_among 16 [some (vR 29 r0), some (vR 6 r1), some (vR 8 r2), some (vI x3), some (vI x4), none] [] h Q) (w : W_X35_among_36 D d Q K16 r0 r1 r2 x3 x4 q0 h) : JW D (d + 1) mX35_among 36 [some (vR 29 r0), some (vR 6 r1), some (vR 8 r2), some (vI x3), some (vI x4), none] [vR 8 q0] h Q := by
  unfold W_X35_among_36 at w
  refine jw_astore (pc' := 38) (ls' := [some (vR 29 r0), some (vR 6 r1), some (vR 8 r2), some (vI x3), some (vI x4), some (vR 8 q0)]) rfl (by decide) rfl ?_
  refine jw_aload_n (pc' := 39) rfl rfl ?_
  obtain ⟨g_1, w⟩ := w
  refine jw_cI (st := []) (sa := [vR 8 r2]) okX14_isEmpty rfl rfl rfl rfl rfl rfl (jstp_virtual (sa := []) (st := []) (k := 0) rfl rfl sX14_isEmpty okX14_isEmpty g_1 (one8.k g_1) rfl rfl) w (fun v_4 h_2 _ _ w => ?_)
  refine jw_if_ne (tgt := 53) (pc' := 45) rfl rfl (fun c_5 => ?_) (fun c_5 => ?_)
  · replace w := w.1 c_5
    refine jw_gen (ls' := [some (vR 29 r0), some (vR 6 r1), some (vR 8 r2), none, some (vI x4), none]) (st' := []) (And.intro (Or.inl rfl) (And.intro (Or.inl rfl) (And.intro (Or.inl rfl) (And.intro (Or.inl rfl) (trivial))))) (trivial) ?_
    exact w_X35_among_53 hK16 w
  · replace w := w.2 c_5
    refine jw_aload (pc' := 47) rfl rfl ?_
    obtain ⟨g_6, w⟩ := w
    refine jw_cI (st := []) (sa := [vR 8 q0]) okX14_isEmpty rfl rfl rfl rfl rfl rfl (jstp_virtual (sa := []) (st := []) (k := 0) rfl rfl sX14_isEmpty okX14_isEmpty g_6 (one8.k g_6) rfl rfl) w (fun v_9 h_7 _ _ w => ?_)
    refine jw_if_eq (tgt := 58) (pc' := 53) rfl rfl (fun c_10 => ?_) (fun c_10 => ?_)
    · replace w := w.1 c_10
      refine jw_aload_n (pc' := 59) rfl rfl ?_
      refine jw_aload (pc' := 61) rfl rfl ?_
      refine jw_cI (st := []) (sa := [vR 8 r2, vR 8 q0]) okX14_order rfl rfl rfl rfl rfl rfl (jstp_virtual (sa := [vR 8 q0]) (st := []) (k := 0) rfl rfl sX14_order okX14_order g_1 (one8.k g_1) rfl rfl) w (fun v_13 h_11 _ _ w => ?_)
      refine jw_if_ne (tgt := 76) (pc' := 67) rfl rfl (fun c_14 => ?_) (fun c_14 => ?_)
      · replace w := w.1 c_14
        refine jw_gen (ls' := [some (vR 29 r0), some (vR 6 r1), some (vR 8 r2), some (vI x3), some (vI x4), none]) (st' := []) (And.intro (Or.inl rfl) (And.intro (Or.inl rfl) (And.intro (Or.inl rfl) (And.intro (Or.inl rfl) (And.intro (Or.inl rfl) (trivial)))))) (trivial) ?_
        exact w_X35_among_76 hK16 w
      · replace w := w.2 c_14
        refine jw_aload_n (pc' := 68) rfl rfl ?_
        obtain ⟨g_15, w⟩ := w
        refine jw_getR (pc' := 71) (F := 108) (t' := 98) rfl rfl rfl rfl rfl g_15 ?_
        refine jw_iconst (pc' := 72) (x := (1 : Int32)) rfl rfl ?_
        obtain ⟨g_16, w⟩ := w
        refine jw_cR (st := []) (sa := [vR 98 (jfr h_11 108 r0), vI (1 : Int32)]) okX14_truth rfl rfl rfl rfl rfl rfl (jstp_virtual (sa := [vI (1 : Int32)]) (st := []) (k := 0) rfl rfl sX14_truth okX14_truth g_16 (one98.k g_16) rfl rfl) w (fun v_19 h_17 _ _ _ w => ?_)
        exact jw_areturn rfl rfl rfl rfl rfl w
    · replace w := w.2 c_10
      refine jw_gen (ls' := [some (vR 29 r0), some (vR 6 r1), some (vR 8 r2), none, some (vI x4), none]) (st' := []) (And.intro (Or.inl rfl) (And.intro (Or.inl rfl) (And.intro (Or.inl rfl) (And.intro (Or.inl rfl) (trivial))))) (trivial) ?_
      exact w_X35_among_53 hK16 w
def W_X35_among_16 (D : JD) (d : Nat) (Q : JO → JH → Prop) (K16 : Nat → Nat → Nat → Int32 → Int32 → JH → Prop) (r0 : Nat) (r1 : Nat) (r2 : Nat) (x3 : Int32) (x4 : Int32) (h : JH) : Prop :=
  r0 ≠ 0 ∧ (((jfi h 112 r0) ≤ x4 → (x3 = 0 → (jfr h 108 r0) ≠ 0 ∧ (cX14_truth D d (jfr h 108 r0) (0 : Int32) h (pR D h 8 (fun v_7 h_5 => W_X35_among_104 D d Q v_7 h_5) (jth Q)))) ∧ (¬ x3 = 0 → (jfr h 108 r0) ≠ 0 ∧ (cX14_none D d (jfr h 108 r0) h (pR D h 8 (fun v_11 h_9 => W_X35_among_104 D d Q v_11 h_9) (jth Q))))) ∧ (¬ (jfi h 112 r0) ≤ x4 → (jfr h 111 r0) ≠ 0 ∧ jin x4 (jln h (jfr h 111 r0)) ∧ ((jar h (jfr h 111 r0) (ixn x4)) ≠ 0 ∧ (v55_at D d (jar h (jfr h 111 r0) (ixn x4)) r1 h (pR D h 8 (fun v_17 h_15 => W_X35_among_36 D d Q K16 r0 r1 r2 x3 x4 v_17 h_15) (jth Q))))))
theorem w_X35_among_16 {D : JD} {d : Nat} {Q : JO → JH → Prop} {K16 : Nat → Nat → Nat → Int32 → Int32 → JH → Prop} {r0 : Nat} {r1 : Nat} {r2 : Nat} {x3 : Int32} {x4 : Int32} {h : JH} (hK16 : ∀ (r0 : Nat) (r1 : Nat) (r2 : Nat) (x3 : Int32) (x4 : Int32) (h : JH), K16 r0 r1 r2 x3 x4 h → JW D (d + 1) mX35_among 16 [some (vR 29 r0), some (vR 6 r1), some (vR 8 r2), some (vI x3), some (vI x4), none] [] h Q) (w : W_X35_among_16 D d Q K16 r0 r1 r2 x3 x4 h) : JW D (d + 1) mX35_among 16 [some (vR 29 r0), some (vR 6 r1), some (vR 8 r2), some (vI x3), some (vI x4), none] [] h Q := by
  unfold W_X35_among_16 at w
  refine jw_iload (pc' := 18) rfl rfl ?_
  refine jw_aload_n (pc' := 19) rfl rfl ?_
  obtain ⟨g_1, w⟩ := w
  refine jw_getI (pc' := 22) (F := 112) rfl rfl rfl rfl g_1 ?_
  refine jw_icmp_ge (tgt := 82) (pc' := 25) rfl rfl (fun c_2 => ?_) (fun c_2 => ?_)
  · replace w := w.1 c_2
    refine jw_iload_n (pc' := 83) rfl rfl ?_
    refine jw_if_eq (tgt := 96) (pc' := 86) rfl rfl (fun c_3 => ?_) (fun c_3 => ?_)
    · replace w := w.1 c_3
      refine jw_aload_n (pc' := 97) rfl rfl ?_
      refine jw_getR (pc' := 100) (F := 108) (t' := 98) rfl rfl rfl rfl rfl g_1 ?_
      refine jw_iconst (pc' := 101) (x := (0 : Int32)) rfl rfl ?_
      obtain ⟨g_4, w⟩ := w
      refine jw_cR (st := []) (sa := [vR 98 (jfr h 108 r0), vI (0 : Int32)]) okX14_truth rfl rfl rfl rfl rfl rfl (jstp_virtual (sa := [vI (0 : Int32)]) (st := []) (k := 0) rfl rfl sX14_truth okX14_truth g_4 (one98.k g_4) rfl rfl) w (fun v_7 h_5 _ _ _ w => ?_)
      refine jw_gen (ls' := [none, none, none, none, none, none]) (st' := [vR 8 v_7]) (trivial) (And.intro (Or.inl rfl) (trivial)) ?_
      exact w_X35_among_104 w
    · replace w := w.2 c_3
      refine jw_aload_n (pc' := 87) rfl rfl ?_
      refine jw_getR (pc' := 90) (F := 108) (t' := 98) rfl rfl rfl rfl rfl g_1 ?_
      obtain ⟨g_8, w⟩ := w
      refine jw_cR (st := []) (sa := [vR 98 (jfr h 108 r0)]) okX14_none rfl rfl rfl rfl rfl rfl (jstp_virtual (sa := []) (st := []) (k := 0) rfl rfl sX14_none okX14_none g_8 (one98.k g_8) rfl rfl) w (fun v_11 h_9 _ _ _ w => ?_)
      refine jw_goto (pc' := 104) rfl rfl ?_
      refine jw_gen (ls' := [none, none, none, none, none, none]) (st' := [vR 8 v_11]) (trivial) (And.intro (Or.inl rfl) (trivial)) ?_
      exact w_X35_among_104 w
  · replace w := w.2 c_2
    refine jw_aload_n (pc' := 26) rfl rfl ?_
    refine jw_getR (pc' := 29) (F := 111) (t' := 77) rfl rfl rfl rfl rfl g_1 ?_
    refine jw_iload (pc' := 31) rfl rfl ?_
    obtain ⟨g_12, w⟩ := w
    obtain ⟨g_13, w⟩ := w
    refine jw_aald (pc' := 32) (t' := 55) rfl rfl rfl rfl g_12 g_13.ix g_13.2 ?_
    refine jw_aload_n (pc' := 33) rfl rfl ?_
    obtain ⟨g_14, w⟩ := w
    refine JW.inv (fun hI => JW.oks (fun ho => ?_))
    have hkd := und55.k hI (ho (vR 55 (jar h (jfr h 111 r0) (ixn x4))) (by simp)) g_14
    simp only [List.mem_cons, List.not_mem_nil, or_false] at hkd
    clear ho hI
    rcases hkd with e_18 | e_18 | e_18 | e_18 | e_18 | e_18 | e_18 | e_18 | e_18 | e_18
    · refine jw_gen (ls' := _) (st' := [vR 6 r1, vR 20 (jar h (jfr h 111 r0) (ixn x4))]) (jgl_rf _ _) (And.intro (Or.inl rfl) (And.intro (Or.inr ⟨_, _, _, rfl, rfl, Or.inr (Or.inr (by rw [e_18]; rfl))⟩) (jgs_rf _ _))) ?_
      refine jw_cR (st := []) (sa := [vR 20 (jar h (jfr h 111 r0) (ixn x4)), vR 6 r1]) okX25_at rfl rfl rfl rfl rfl rfl (jstp_up (sa := [vR 6 r1]) (st := []) rfl (lw_g (jtb_mem (c := 12) (i := 61) rfl) rfl) um28 okX25_at g_14 (fun _ _ => by rw [e_18]; exact ⟨rfl, rfl⟩) rfl rfl) (w.1 e_18) (fun v_17 h_15 _ _ _ w => ?_)
      exact w_X35_among_36 hK16 w
    · refine jw_gen (ls' := _) (st' := [vR 6 r1, vR 21 (jar h (jfr h 111 r0) (ixn x4))]) (jgl_rf _ _) (And.intro (Or.inl rfl) (And.intro (Or.inr ⟨_, _, _, rfl, rfl, Or.inr (Or.inr (by rw [e_18]; rfl))⟩) (jgs_rf _ _))) ?_
      refine jw_cR (st := []) (sa := [vR 21 (jar h (jfr h 111 r0) (ixn x4)), vR 6 r1]) okX27_at rfl rfl rfl rfl rfl rfl (jstp_up (sa := [vR 6 r1]) (st := []) rfl (lw_g (jtb_mem (c := 12) (i := 61) rfl) rfl) um29 okX27_at g_14 (fun _ _ => by rw [e_18]; exact ⟨rfl, rfl⟩) rfl rfl) (w.2.1 e_18) (fun v_17 h_15 _ _ _ w => ?_)
      exact w_X35_among_36 hK16 w
    · refine jw_gen (ls' := _) (st' := [vR 6 r1, vR 22 (jar h (jfr h 111 r0) (ixn x4))]) (jgl_rf _ _) (And.intro (Or.inl rfl) (And.intro (Or.inr ⟨_, _, _, rfl, rfl, Or.inr (Or.inr (by rw [e_18]; rfl))⟩) (jgs_rf _ _))) ?_
      refine jw_cR (st := []) (sa := [vR 22 (jar h (jfr h 111 r0) (ixn x4)), vR 6 r1]) okX28_at rfl rfl rfl rfl rfl rfl (jstp_up (sa := [vR 6 r1]) (st := []) rfl (lw_g (jtb_mem (c := 12) (i := 61) rfl) rfl) um30 okX28_at g_14 (fun _ _ => by rw [e_18]; exact ⟨rfl, rfl⟩) rfl rfl) (w.2.2.1 e_18) (fun v_17 h_15 _ _ _ w => ?_)
      exact w_X35_among_36 hK16 w
    · refine jw_gen (ls' := _) (st' := [vR 6 r1, vR 23 (jar h (jfr h 111 r0) (ixn x4))]) (jgl_rf _ _) (And.intro (Or.inl rfl) (And.intro (Or.inr ⟨_, _, _, rfl, rfl, Or.inr (Or.inr (by rw [e_18]; rfl))⟩) (jgs_rf _ _))) ?_
      refine jw_cR (st := []) (sa := [vR 23 (jar h (jfr h 111 r0) (ixn x4)), vR 6 r1]) okX29_at rfl rfl rfl rfl rfl rfl (jstp_up (sa := [vR 6 r1]) (st := []) rfl (lw_g (jtb_mem (c := 12) (i := 61) rfl) rfl) um31 okX29_at g_14 (fun _ _ => by rw [e_18]; exact ⟨rfl, rfl⟩) rfl rfl) (w.2.2.2.1 e_18) (fun v_17 h_15 _ _ _ w => ?_)
      exact w_X35_among_36 hK16 w
    · refine jw_gen (ls' := _) (st' := [vR 6 r1, vR 24 (jar h (jfr h 111 r0) (ixn x4))]) (jgl_rf _ _) (And.intro (Or.inl rfl) (And.intro (Or.inr ⟨_, _, _, rfl, rfl, Or.inr (Or.inr (by rw [e_18]; rfl))⟩) (jgs_rf _ _))) ?_
      refine jw_cR (st := []) (sa := [vR 24 (jar h (jfr h 111 r0) (ixn x4)), vR 6 r1]) okX30_at rfl rfl rfl rfl rfl rfl (jstp_up (sa := [vR 6 r1]) (st := []) rfl (lw_g (jtb_mem (c := 12) (i := 61) rfl) rfl) um32 okX30_at g_14 (fun _ _ => by rw [e_18]; exact ⟨rfl, rfl⟩) rfl rfl) (w.2.2.2.2.1 e_18) (fun v_17 h_15 _ _ _ w => ?_)
      exact w_X35_among_36 hK16 w
    · refine jw_gen (ls' := _) (st' := [vR 6 r1, vR 25 (jar h (jfr h 111 r0) (ixn x4))]) (jgl_rf _ _) (And.intro (Or.inl rfl) (And.intro (Or.inr ⟨_, _, _, rfl, rfl, Or.inr (Or.inr (by rw [e_18]; rfl))⟩) (jgs_rf _ _))) ?_
      refine jw_cR (st := []) (sa := [vR 25 (jar h (jfr h 111 r0) (ixn x4)), vR 6 r1]) okX31_at rfl rfl rfl rfl rfl rfl (jstp_up (sa := [vR 6 r1]) (st := []) rfl (lw_g (jtb_mem (c := 12) (i := 61) rfl) rfl) um33 okX31_at g_14 (fun _ _ => by rw [e_18]; exact ⟨rfl, rfl⟩) rfl rfl) (w.2.2.2.2.2.1 e_18) (fun v_17 h_15 _ _ _ w => ?_)
      exact w_X35_among_36 hK16 w
    · refine jw_gen (ls' := _) (st' := [vR 6 r1, vR 26 (jar h (jfr h 111 r0) (ixn x4))]) (jgl_rf _ _) (And.intro (Or.inl rfl) (And.intro (Or.inr ⟨_, _, _, rfl, rfl, Or.inr (Or.inr (by rw [e_18]; rfl))⟩) (jgs_rf _ _))) ?_
      refine jw_cR (st := []) (sa := [vR 26 (jar h (jfr h 111 r0) (ixn x4)), vR 6 r1]) okX32_at rfl rfl rfl rfl rfl rfl (jstp_up (sa := [vR 6 r1]) (st := []) rfl (lw_g (jtb_mem (c := 12) (i := 61) rfl) rfl) um34 okX32_at g_14 (fun _ _ => by rw [e_18]; exact ⟨rfl, rfl⟩) rfl rfl) (w.2.2.2.2.2.2.1 e_18) (fun v_17 h_15 _ _ _ w => ?_)
      exact w_X35_among_36 hK16 w
    · refine jw_gen (ls' := _) (st' := [vR 6 r1, vR 27 (jar h (jfr h 111 r0) (ixn x4))]) (jgl_rf _ _) (And.intro (Or.inl rfl) (And.intro (Or.inr ⟨_, _, _, rfl, rfl, Or.inr (Or.inr (by rw [e_18]; rfl))⟩) (jgs_rf _ _))) ?_
      refine jw_cR (st := []) (sa := [vR 27 (jar h (jfr h 111 r0) (ixn x4)), vR 6 r1]) okX33_at rfl rfl rfl rfl rfl rfl (jstp_up (sa := [vR 6 r1]) (st := []) rfl (lw_g (jtb_mem (c := 12) (i := 61) rfl) rfl) um35 okX33_at g_14 (fun _ _ => by rw [e_18]; exact ⟨rfl, rfl⟩) rfl rfl) (w.2.2.2.2.2.2.2.1 e_18) (fun v_17 h_15 _ _ _ w => ?_)
      exact w_X35_among_36 hK16 w
    · refine jw_gen (ls' := _) (st' := [vR 6 r1, vR 28 (jar h (jfr h 111 r0) (ixn x4))]) (jgl_rf _ _) (And.intro (Or.inl rfl) (And.intro (Or.inr ⟨_, _, _, rfl, rfl, Or.inr (Or.inr (by rw [e_18]; rfl))⟩) (jgs_rf _ _))) ?_
      refine jw_cR (st := []) (sa := [vR 28 (jar h (jfr h 111 r0) (ixn x4)), vR 6 r1]) okX34_at rfl rfl rfl rfl rfl rfl (jstp_up (sa := [vR 6 r1]) (st := []) rfl (lw_g (jtb_mem (c := 12) (i := 61) rfl) rfl) um36 okX34_at g_14 (fun _ _ => by rw [e_18]; exact ⟨rfl, rfl⟩) rfl rfl) (w.2.2.2.2.2.2.2.2.1 e_18) (fun v_17 h_15 _ _ _ w => ?_)
      exact w_X35_among_36 hK16 w
    · refine jw_gen (ls' := _) (st' := [vR 6 r1, vR 29 (jar h (jfr h 111 r0) (ixn x4))]) (jgl_rf _ _) (And.intro (Or.inl rfl) (And.intro (Or.inr ⟨_, _, _, rfl, rfl, Or.inr (Or.inr (by rw [e_18]; rfl))⟩) (jgs_rf _ _))) ?_
      refine jw_cR (st := []) (sa := [vR 29 (jar h (jfr h 111 r0) (ixn x4)), vR 6 r1]) okX35_at rfl rfl rfl rfl rfl rfl (jstp_up (sa := [vR 6 r1]) (st := []) rfl (lw_g (jtb_mem (c := 12) (i := 61) rfl) rfl) um37 okX35_at g_14 (fun _ _ => by rw [e_18]; exact ⟨rfl, rfl⟩) rfl rfl) (w.2.2.2.2.2.2.2.2.2 e_18) (fun v_17 h_15 _ _ _ w => ?_)
      exact w_X35_among_36 hK16 w
def L_X35_among_16 (D : JD) (d : Nat) (Q : JO → JH → Prop) : Nat → Nat → Nat → Nat → Int32 → Int32 → JH → Prop
  | 0 => fun _ _ _ _ _ _ => False
  | n + 1 => fun r0 r1 r2 x3 x4 h => W_X35_among_16 D d Q (L_X35_among_16 D d Q n) r0 r1 r2 x3 x4 h
theorem l_X35_among_16 {D : JD} {d : Nat} {Q : JO → JH → Prop} : ∀ (n : Nat) (r0 : Nat) (r1 : Nat) (r2 : Nat) (x3 : Int32) (x4 : Int32) (h : JH), L_X35_among_16 D d Q n r0 r1 r2 x3 x4 h → JW D (d + 1) mX35_among 16 [some (vR 29 r0), some (vR 6 r1), some (vR 8 r2), some (vI x3), some (vI x4), none] [] h Q := by
  intro n
  induction n with
  | zero => intro _ _ _ _ _ _ w; exact w.elim
  | succ n ih => intro _ _ _ _ _ h w; exact w_X35_among_16 ih w
def W_X35_among_10 (D : JD) (d : Nat) (Q : JO → JH → Prop) (r0 : Nat) (r1 : Nat) (q0 : Nat) (h : JH) : Prop :=
  ∃ n, L_X35_among_16 D d Q n r0 r1 q0 (0 : Int32) (1 : Int32) h
theorem w_X35_among_10 {D : JD} {d : Nat} {Q : JO → JH → Prop} {r0 : Nat} {r1 : Nat} {q0 : Nat} {h : JH} (w : W_X35_among_10 D d Q r0 r1 q0 h) : JW D (d + 1) mX35_among 10 [some (vR 29 r0), some (vR 6 r1), none, none, none, none] [vR 8 q0] h Q := by
  unfold W_X35_among_10 at w
  refine jw_astore_n (pc' := 11) (ls' := [some (vR 29 r0), some (vR 6 r1), some (vR 8 q0), none, none, none]) rfl (by decide) rfl ?_
  refine jw_iconst (pc' := 12) (x := (0 : Int32)) rfl rfl ?_
  refine jw_istore_n (pc' := 13) (ls' := [some (vR 29 r0), some (vR 6 r1), some (vR 8 q0), some (vI (0 : Int32)), none, none]) rfl (by decide) rfl ?_
  refine jw_iconst (pc' := 14) (x := (1 : Int32)) rfl rfl ?_
  refine jw_istore (pc' := 16) (ls' := [some (vR 29 r0), some (vR 6 r1), some (vR 8 q0), some (vI (0 : Int32)), some (vI (1 : Int32)), none]) rfl (by decide) rfl ?_
  obtain ⟨n, w⟩ := w
  exact l_X35_among_16 n _ _ _ _ _ _ w
def W_X35_among_0 (D : JD) (d : Nat) (Q : JO → JH → Prop) (r0 : Nat) (r1 : Nat) (h : JH) : Prop :=
  r0 ≠ 0 ∧ ((jfr h 111 r0) ≠ 0 ∧ jin (0 : Int32) (jln h (jfr h 111 r0)) ∧ ((jar h (jfr h 111 r0) (ixn (0 : Int32))) ≠ 0 ∧ (v55_at D d (jar h (jfr h 111 r0) (ixn (0 : Int32))) r1 h (pR D h 8 (fun v_7 h_5 => W_X35_among_10 D d Q r0 r1 v_7 h_5) (jth Q)))))
theorem w_X35_among_0 {D : JD} {d : Nat} {Q : JO → JH → Prop} {r0 : Nat} {r1 : Nat} {h : JH} (w : W_X35_among_0 D d Q r0 r1 h) : JW D (d + 1) mX35_among 0 [some (vR 29 r0), some (vR 6 r1), none, none, none, none] [] h Q := by
  unfold W_X35_among_0 at w
  refine jw_aload_n (pc' := 1) rfl rfl ?_
  obtain ⟨g_1, w⟩ := w
  refine jw_getR (pc' := 4) (F := 111) (t' := 77) rfl rfl rfl rfl rfl g_1 ?_
  refine jw_iconst (pc' := 5) (x := (0 : Int32)) rfl rfl ?_
  obtain ⟨g_2, w⟩ := w
  obtain ⟨g_3, w⟩ := w
  refine jw_aald (pc' := 6) (t' := 55) rfl rfl rfl rfl g_2 g_3.ix g_3.2 ?_
  refine jw_aload_n (pc' := 7) rfl rfl ?_
  obtain ⟨g_4, w⟩ := w
  refine JW.inv (fun hI => JW.oks (fun ho => ?_))
  have hkd := und55.k hI (ho (vR 55 (jar h (jfr h 111 r0) (ixn (0 : Int32)))) (by simp)) g_4
  simp only [List.mem_cons, List.not_mem_nil, or_false] at hkd
  clear ho hI
  rcases hkd with e_8 | e_8 | e_8 | e_8 | e_8 | e_8 | e_8 | e_8 | e_8 | e_8
  · refine jw_gen (ls' := _) (st' := [vR 6 r1, vR 20 (jar h (jfr h 111 r0) (ixn (0 : Int32)))]) (jgl_rf _ _) (And.intro (Or.inl rfl) (And.intro (Or.inr ⟨_, _, _, rfl, rfl, Or.inr (Or.inr (by rw [e_8]; rfl))⟩) (jgs_rf _ _))) ?_
    refine jw_cR (st := []) (sa := [vR 20 (jar h (jfr h 111 r0) (ixn (0 : Int32))), vR 6 r1]) okX25_at rfl rfl rfl rfl rfl rfl (jstp_up (sa := [vR 6 r1]) (st := []) rfl (lw_g (jtb_mem (c := 12) (i := 61) rfl) rfl) um28 okX25_at g_4 (fun _ _ => by rw [e_8]; exact ⟨rfl, rfl⟩) rfl rfl) (w.1 e_8) (fun v_7 h_5 _ _ _ w => ?_)
    exact w_X35_among_10 w
  · refine jw_gen (ls' := _) (st' := [vR 6 r1, vR 21 (jar h (jfr h 111 r0) (ixn (0 : Int32)))]) (jgl_rf _ _) (And.intro (Or.inl rfl) (And.intro (Or.inr ⟨_, _, _, rfl, rfl, Or.inr (Or.inr (by rw [e_8]; rfl))⟩) (jgs_rf _ _))) ?_
    refine jw_cR (st := []) (sa := [vR 21 (jar h (jfr h 111 r0) (ixn (0 : Int32))), vR 6 r1]) okX27_at rfl rfl rfl rfl rfl rfl (jstp_up (sa := [vR 6 r1]) (st := []) rfl (lw_g (jtb_mem (c := 12) (i := 61) rfl) rfl) um29 okX27_at g_4 (fun _ _ => by rw [e_8]; exact ⟨rfl, rfl⟩) rfl rfl) (w.2.1 e_8) (fun v_7 h_5 _ _ _ w => ?_)
    exact w_X35_among_10 w
  · refine jw_gen (ls' := _) (st' := [vR 6 r1, vR 22 (jar h (jfr h 111 r0) (ixn (0 : Int32)))]) (jgl_rf _ _) (And.intro (Or.inl rfl) (And.intro (Or.inr ⟨_, _, _, rfl, rfl, Or.inr (Or.inr (by rw [e_8]; rfl))⟩) (jgs_rf _ _))) ?_
    refine jw_cR (st := []) (sa := [vR 22 (jar h (jfr h 111 r0) (ixn (0 : Int32))), vR 6 r1]) okX28_at rfl rfl rfl rfl rfl rfl (jstp_up (sa := [vR 6 r1]) (st := []) rfl (lw_g (jtb_mem (c := 12) (i := 61) rfl) rfl) um30 okX28_at g_4 (fun _ _ => by rw [e_8]; exact ⟨rfl, rfl⟩) rfl rfl) (w.2.2.1 e_8) (fun v_7 h_5 _ _ _ w => ?_)
    exact w_X35_among_10 w
  · refine jw_gen (ls' := _) (st' := [vR 6 r1, vR 23 (jar h (jfr h 111 r0) (ixn (0 : Int32)))]) (jgl_rf _ _) (And.intro (Or.inl rfl) (And.intro (Or.inr ⟨_, _, _, rfl, rfl, Or.inr (Or.inr (by rw [e_8]; rfl))⟩) (jgs_rf _ _))) ?_
    refine jw_cR (st := []) (sa := [vR 23 (jar h (jfr h 111 r0) (ixn (0 : Int32))), vR 6 r1]) okX29_at rfl rfl rfl rfl rfl rfl (jstp_up (sa := [vR 6 r1]) (st := []) rfl (lw_g (jtb_mem (c := 12) (i := 61) rfl) rfl) um31 okX29_at g_4 (fun _ _ => by rw [e_8]; exact ⟨rfl, rfl⟩) rfl rfl) (w.2.2.2.1 e_8) (fun v_7 h_5 _ _ _ w => ?_)
    exact w_X35_among_10 w
  · refine jw_gen (ls' := _) (st' := [vR 6 r1, vR 24 (jar h (jfr h 111 r0) (ixn (0 : Int32)))]) (jgl_rf _ _) (And.intro (Or.inl rfl) (And.intro (Or.inr ⟨_, _, _, rfl, rfl, Or.inr (Or.inr (by rw [e_8]; rfl))⟩) (jgs_rf _ _))) ?_
    refine jw_cR (st := []) (sa := [vR 24 (jar h (jfr h 111 r0) (ixn (0 : Int32))), vR 6 r1]) okX30_at rfl rfl rfl rfl rfl rfl (jstp_up (sa := [vR 6 r1]) (st := []) rfl (lw_g (jtb_mem (c := 12) (i := 61) rfl) rfl) um32 okX30_at g_4 (fun _ _ => by rw [e_8]; exact ⟨rfl, rfl⟩) rfl rfl) (w.2.2.2.2.1 e_8) (fun v_7 h_5 _ _ _ w => ?_)
    exact w_X35_among_10 w
  · refine jw_gen (ls' := _) (st' := [vR 6 r1, vR 25 (jar h (jfr h 111 r0) (ixn (0 : Int32)))]) (jgl_rf _ _) (And.intro (Or.inl rfl) (And.intro (Or.inr ⟨_, _, _, rfl, rfl, Or.inr (Or.inr (by rw [e_8]; rfl))⟩) (jgs_rf _ _))) ?_
    refine jw_cR (st := []) (sa := [vR 25 (jar h (jfr h 111 r0) (ixn (0 : Int32))), vR 6 r1]) okX31_at rfl rfl rfl rfl rfl rfl (jstp_up (sa := [vR 6 r1]) (st := []) rfl (lw_g (jtb_mem (c := 12) (i := 61) rfl) rfl) um33 okX31_at g_4 (fun _ _ => by rw [e_8]; exact ⟨rfl, rfl⟩) rfl rfl) (w.2.2.2.2.2.1 e_8) (fun v_7 h_5 _ _ _ w => ?_)
    exact w_X35_among_10 w
  · refine jw_gen (ls' := _) (st' := [vR 6 r1, vR 26 (jar h (jfr h 111 r0) (ixn (0 : Int32)))]) (jgl_rf _ _) (And.intro (Or.inl rfl) (And.intro (Or.inr ⟨_, _, _, rfl, rfl, Or.inr (Or.inr (by rw [e_8]; rfl))⟩) (jgs_rf _ _))) ?_
    refine jw_cR (st := []) (sa := [vR 26 (jar h (jfr h 111 r0) (ixn (0 : Int32))), vR 6 r1]) okX32_at rfl rfl rfl rfl rfl rfl (jstp_up (sa := [vR 6 r1]) (st := []) rfl (lw_g (jtb_mem (c := 12) (i := 61) rfl) rfl) um34 okX32_at g_4 (fun _ _ => by rw [e_8]; exact ⟨rfl, rfl⟩) rfl rfl) (w.2.2.2.2.2.2.1 e_8) (fun v_7 h_5 _ _ _ w => ?_)
    exact w_X35_among_10 w
  · refine jw_gen (ls' := _) (st' := [vR 6 r1, vR 27 (jar h (jfr h 111 r0) (ixn (0 : Int32)))]) (jgl_rf _ _) (And.intro (Or.inl rfl) (And.intro (Or.inr ⟨_, _, _, rfl, rfl, Or.inr (Or.inr (by rw [e_8]; rfl))⟩) (jgs_rf _ _))) ?_
    refine jw_cR (st := []) (sa := [vR 27 (jar h (jfr h 111 r0) (ixn (0 : Int32))), vR 6 r1]) okX33_at rfl rfl rfl rfl rfl rfl (jstp_up (sa := [vR 6 r1]) (st := []) rfl (lw_g (jtb_mem (c := 12) (i := 61) rfl) rfl) um35 okX33_at g_4 (fun _ _ => by rw [e_8]; exact ⟨rfl, rfl⟩) rfl rfl) (w.2.2.2.2.2.2.2.1 e_8) (fun v_7 h_5 _ _ _ w => ?_)
    exact w_X35_among_10 w
  · refine jw_gen (ls' := _) (st' := [vR 6 r1, vR 28 (jar h (jfr h 111 r0) (ixn (0 : Int32)))]) (jgl_rf _ _) (And.intro (Or.inl rfl) (And.intro (Or.inr ⟨_, _, _, rfl, rfl, Or.inr (Or.inr (by rw [e_8]; rfl))⟩) (jgs_rf _ _))) ?_
    refine jw_cR (st := []) (sa := [vR 28 (jar h (jfr h 111 r0) (ixn (0 : Int32))), vR 6 r1]) okX34_at rfl rfl rfl rfl rfl rfl (jstp_up (sa := [vR 6 r1]) (st := []) rfl (lw_g (jtb_mem (c := 12) (i := 61) rfl) rfl) um36 okX34_at g_4 (fun _ _ => by rw [e_8]; exact ⟨rfl, rfl⟩) rfl rfl) (w.2.2.2.2.2.2.2.2.1 e_8) (fun v_7 h_5 _ _ _ w => ?_)
    exact w_X35_among_10 w
  · refine jw_gen (ls' := _) (st' := [vR 6 r1, vR 29 (jar h (jfr h 111 r0) (ixn (0 : Int32)))]) (jgl_rf _ _) (And.intro (Or.inl rfl) (And.intro (Or.inr ⟨_, _, _, rfl, rfl, Or.inr (Or.inr (by rw [e_8]; rfl))⟩) (jgs_rf _ _))) ?_
    refine jw_cR (st := []) (sa := [vR 29 (jar h (jfr h 111 r0) (ixn (0 : Int32))), vR 6 r1]) okX35_at rfl rfl rfl rfl rfl rfl (jstp_up (sa := [vR 6 r1]) (st := []) rfl (lw_g (jtb_mem (c := 12) (i := 61) rfl) rfl) um37 okX35_at g_4 (fun _ _ => by rw [e_8]; exact ⟨rfl, rfl⟩) rfl rfl) (w.2.2.2.2.2.2.2.2.2 e_8) (fun v_7 h_5 _ _ _ w => ?_)
    exact w_X35_among_10 w
def T_X35_among (D : JD) (d : Nat) (Q : JO → JH → Prop) (r0 : Nat) (r1 : Nat) (h : JH) : Prop := W_X35_among_0 D d Q r0 r1 h
theorem t_X35_among {D : JD} {d : Nat} {Q : JO → JH → Prop} {r0 : Nat} {r1 : Nat} {h : JH} (w : T_X35_among D d Q r0 r1 h) : cX35_among D (d + 1) r0 r1 h Q := by
  unfold T_X35_among at w
  unfold cX35_among
  exact w_X35_among_0 w
def W_X36_init_0 (D : JD) (d : Nat) (Q : JO → JH → Prop) (r0 : Nat) (r1 : Nat) (h : JH) : Prop :=
  r0 ≠ 0 ∧ (cX20_init D d r0 h (pV D h (fun h_2 => ∀ (r_5 : Nat) (h_6 : JH), r_5 = jsz h_2 + 1 → h_6 = nwo h_2 31 5 → (cX38_init D d r_5 h_6 (pV D h_6 (fun h_9 => ∀ h_12 : JH, h_12 = wfr h_9 130 r0 r_5 → (∀ h_14 : JH, h_14 = wfr h_12 129 r0 r1 → ((jfr h_14 130 r0) ≠ 0 ∧ ∀ h_17 : JH, h_17 = wfr h_14 136 (jfr h_14 130 r0) r1 → (Q (.inl none) h_17)))) (jth Q)))) (jth Q)))
theorem w_X36_init_0 {D : JD} {d : Nat} {Q : JO → JH → Prop} {r0 : Nat} {r1 : Nat} {h : JH} (w : W_X36_init_0 D d Q r0 r1 h) : JW D (d + 1) mX36_init 0 [some (vR 58 r0), some (vR 64 r1)] [] h Q := by
  unfold W_X36_init_0 at w
  refine jw_aload_n (pc' := 1) rfl rfl ?_
  obtain ⟨g_1, w⟩ := w
  refine jw_cV (st := []) (sa := [vR 58 r0]) okX20_init rfl rfl rfl rfl rfl rfl (jstp_init (sa := []) (st := []) rfl rfl sX20_init okX20_init (lw_g (jtb_mem (c := 6) (i := 188) rfl) rfl) g_1 rfl rfl) w (fun h_2 _ _ w => ?_)
  refine jw_aload_n (pc' := 5) rfl rfl ?_
  refine jw_new' (pc' := 8) (k := 31) (n := 5) rfl rfl rfl rfl rfl rfl rfl (fun r_5 h_6 e_7 e_8 => ?_)
  replace w := w r_5 h_6 e_7 e_8
  refine jw_dup (pc' := 9) rfl rfl ?_
  refine jw_cV (st := [vR 31 r_5, vR 58 r0]) (sa := [vR 31 r_5]) okX38_init rfl rfl rfl rfl rfl rfl (jstp_init (sa := []) (st := [vR 31 r_5, vR 58 r0]) rfl rfl sX38_init okX38_init (lw_g (jtb_mem (c := 8) (i := 205) rfl) rfl) (jnz e_7) rfl rfl) w (fun h_9 _ _ w => ?_)
  refine jw_putR' (pc' := 15) (F := 130) rfl rfl rfl (Or.inr rfl) (Or.inr ⟨rfl, rfl⟩) rfl rfl rfl g_1 (fun h_12 e_13 => ?_)
  replace w := w h_12 e_13
  refine jw_aload_n (pc' := 16) rfl rfl ?_
  refine jw_aload_n (pc' := 17) rfl rfl ?_
  refine jw_putR' (pc' := 20) (F := 129) rfl rfl rfl (Or.inr rfl) (Or.inr ⟨rfl, rfl⟩) rfl rfl rfl g_1 (fun h_14 e_15 => ?_)
  replace w := w h_14 e_15
  refine jw_aload_n (pc' := 21) rfl rfl ?_
  refine jw_getR (pc' := 24) (F := 130) (t' := 31) rfl rfl rfl rfl rfl g_1 ?_
  refine jw_aload_n (pc' := 25) rfl rfl ?_
  obtain ⟨g_16, w⟩ := w
  refine jw_putR' (pc' := 28) (F := 136) rfl rfl rfl (Or.inr rfl) (Or.inl rfl) rfl rfl rfl g_16 (fun h_17 e_18 => ?_)
  replace w := w h_17 e_18
  exact jw_return rfl rfl w
def T_X36_init (D : JD) (d : Nat) (Q : JO → JH → Prop) (r0 : Nat) (r1 : Nat) (h : JH) : Prop := W_X36_init_0 D d Q r0 r1 h
theorem t_X36_init {D : JD} {d : Nat} {Q : JO → JH → Prop} {r0 : Nat} {r1 : Nat} {h : JH} (w : T_X36_init D d Q r0 r1 h) : cX36_init D (d + 1) r0 r1 h Q := by
  unfold T_X36_init at w
  unfold cX36_init
  exact w_X36_init_0 w
def W_X36_known_0 (D : JD) (d : Nat) (Q : JO → JH → Prop) (r0 : Nat) (r1 : Nat) (h : JH) : Prop :=
  r0 ≠ 0 ∧ (r1 ≠ 0 ∧ ((jfr h 20 r1) ≠ 0 ∧ (cX4_needed D d (jfr h 20 r1) (jfr h 129 r0) h (pR D h 5 (fun v_6 h_4 => (jfr h 130 r0) ≠ 0 ∧ ∀ h_8 : JH, h_8 = wfr h_4 138 (jfr h 130 r0) v_6 → ((jfr h_8 23 r1) ≠ 0 ∧ ((jfr h_8 47 (jfr h_8 23 r1)) ≠ 0 ∧ jin (0 : Int32) (jln h_8 (jfr h_8 47 (jfr h_8 23 r1))) ∧ ∀ h_13 : JH, h_13 = war h_8 (jfr h_8 47 (jfr h_8 23 r1)) (ixn (0 : Int32)) (jfr h_8 130 r0) → ((jfr h_13 23 r1) ≠ 0 ∧ ∀ h_16 : JH, h_16 = wfi h_13 48 (jfr h_13 23 r1) (1 : Int32) → (Q (.inl none) h_16))))) (jth Q)))))
theorem w_X36_known_0 {D : JD} {d : Nat} {Q : JO → JH → Prop} {r0 : Nat} {r1 : Nat} {h : JH} (w : W_X36_known_0 D d Q r0 r1 h) : JW D (d + 1) mX36_known 0 [some (vR 58 r0), some (vR 3 r1)] [] h Q := by
  unfold W_X36_known_0 at w
  refine jw_aload_n (pc' := 1) rfl rfl ?_
  obtain ⟨g_1, w⟩ := w
  refine jw_getR (pc' := 4) (F := 130) (t' := 31) rfl rfl rfl rfl rfl g_1 ?_
  refine jw_aload_n (pc' := 5) rfl rfl ?_
  obtain ⟨g_2, w⟩ := w
  refine jw_getR (pc' := 8) (F := 20) (t' := 114) rfl rfl rfl rfl rfl g_2 ?_
  refine jw_aload_n (pc' := 9) rfl rfl ?_
  refine jw_getR (pc' := 12) (F := 129) (t' := 64) rfl rfl rfl rfl rfl g_1 ?_
  obtain ⟨g_3, w⟩ := w
  refine jw_cR (st := [vR 31 (jfr h 130 r0)]) (sa := [vR 114 (jfr h 20 r1), vR 64 (jfr h 129 r0)]) okX4_needed rfl rfl rfl rfl rfl rfl (jstp_virtual (sa := [vR 64 (jfr h 129 r0)]) (st := [vR 31 (jfr h 130 r0)]) (k := 0) rfl rfl sX4_needed okX4_needed g_3 (one114.k g_3) rfl rfl) w (fun v_6 h_4 _ _ _ w => ?_)
  obtain ⟨g_7, w⟩ := w
  refine jw_putR' (pc' := 18) (F := 138) rfl rfl rfl (Or.inr rfl) (Or.inl rfl) rfl rfl rfl g_7 (fun h_8 e_9 => ?_)
  replace w := w h_8 e_9
  refine jw_aload_n (pc' := 19) rfl rfl ?_
  refine jw_getR (pc' := 22) (F := 23) (t' := 6) rfl rfl rfl rfl rfl g_2 ?_
  obtain ⟨g_10, w⟩ := w
  refine jw_getR (pc' := 25) (F := 47) (t' := 141) rfl rfl rfl rfl rfl g_10 ?_
  refine jw_iconst (pc' := 26) (x := (0 : Int32)) rfl rfl ?_
  refine jw_aload_n (pc' := 27) rfl rfl ?_
  refine jw_getR (pc' := 30) (F := 130) (t' := 31) rfl rfl rfl rfl rfl g_1 ?_
  obtain ⟨g_11, w⟩ := w
  obtain ⟨g_12, w⟩ := w
  refine jw_aast' (pc' := 31) rfl rfl rfl rfl rfl rfl g_11 g_12 (fun h_13 e_14 => ?_)
  replace w := w h_13 e_14
  refine jw_aload_n (pc' := 32) rfl rfl ?_
  refine jw_getR (pc' := 35) (F := 23) (t' := 6) rfl rfl rfl rfl rfl g_2 ?_
  refine jw_iconst (pc' := 36) (x := (1 : Int32)) rfl rfl ?_
  obtain ⟨g_15, w⟩ := w
  refine jw_putI' (pc' := 39) (F := 48) rfl rfl rfl (Or.inr rfl) (Or.inl rfl) rfl (rfl) (rfl) rfl g_15 (fun h_16 e_17 => ?_)
  replace w := w h_16 e_17
  exact jw_return rfl rfl w
def T_X36_known (D : JD) (d : Nat) (Q : JO → JH → Prop) (r0 : Nat) (r1 : Nat) (h : JH) : Prop := W_X36_known_0 D d Q r0 r1 h
theorem t_X36_known {D : JD} {d : Nat} {Q : JO → JH → Prop} {r0 : Nat} {r1 : Nat} {h : JH} (w : T_X36_known D d Q r0 r1 h) : cX36_known D (d + 1) r0 r1 h Q := by
  unfold T_X36_known at w
  unfold cX36_known
  exact w_X36_known_0 w
def W_X36_picks_49 (D : JD) (d : Nat) (Q : JO → JH → Prop) (s0 : Int32) (h : JH) : Prop :=
  jbo s0 ∧ (Q (.inl (some (vI s0))) h)
theorem w_X36_picks_49 {D : JD} {d : Nat} {Q : JO → JH → Prop} {s0 : Int32} {h : JH} (w : W_X36_picks_49 D d Q s0 h) : JW D (d + 1) mX36_picks 49 [none, none, none] [vI s0] h Q := by
  unfold W_X36_picks_49 at w
  obtain ⟨g_1, w⟩ := w
  exact jw_ireturn rfl rfl (g_1.nr) w
def W_X36_picks_44 (D : JD) (d : Nat) (Q : JO → JH → Prop) (h : JH) : Prop :=
  W_X36_picks_49 D d Q (1 : Int32) h
theorem w_X36_picks_44 {D : JD} {d : Nat} {Q : JO → JH → Prop} {h : JH} (w : W_X36_picks_44 D d Q h) : JW D (d + 1) mX36_picks 44 [none, none, none] [] h Q := by
  unfold W_X36_picks_44 at w
  refine jw_iconst (pc' := 45) (x := (1 : Int32)) rfl rfl ?_
  refine jw_goto (pc' := 49) rfl rfl ?_
  exact w_X36_picks_49 w
def W_X36_picks_38 (D : JD) (d : Nat) (Q : JO → JH → Prop) (q0 : Nat) (h : JH) : Prop :=
  q0 ≠ 0 ∧ (cX14_isTrue D d q0 h (pI D h (fun v_4 h_2 => (v_4 = 0 → W_X36_picks_49 D d Q (0 : Int32) h_2) ∧ (¬ v_4 = 0 → W_X36_picks_44 D d Q h_2)) (jth Q)))
theorem w_X36_picks_38 {D : JD} {d : Nat} {Q : JO → JH → Prop} {q0 : Nat} {h : JH} (w : W_X36_picks_38 D d Q q0 h) : JW D (d + 1) mX36_picks 38 [none, none, none] [vR 8 q0] h Q := by
  unfold W_X36_picks_38 at w
  obtain ⟨g_1, w⟩ := w
  refine jw_cI (st := []) (sa := [vR 8 q0]) okX14_isTrue rfl rfl rfl rfl rfl rfl (jstp_virtual (sa := []) (st := []) (k := 0) rfl rfl sX14_isTrue okX14_isTrue g_1 (one8.k g_1) rfl rfl) w (fun v_4 h_2 _ _ w => ?_)
  refine jw_if_eq (tgt := 48) (pc' := 44) rfl rfl (fun c_5 => ?_) (fun c_5 => ?_)
  · replace w := w.1 c_5
    refine jw_iconst (pc' := 49) (x := (0 : Int32)) rfl rfl ?_
    exact w_X36_picks_49 w
  · replace w := w.2 c_5
    exact w_X36_picks_44 w
def W_X36_picks_0 (D : JD) (d : Nat) (Q : JO → JH → Prop) (r0 : Nat) (r1 : Nat) (x2 : Int32) (h : JH) : Prop :=
  r1 ≠ 0 ∧ ((jfr h 23 r1) ≠ 0 ∧ (r0 ≠ 0 ∧ ((jfr h 130 r0) ≠ 0 ∧ ((jfr h 138 (jfr h 130 r0)) ≠ 0 ∧ (cX5_row D d (jfr h 138 (jfr h 130 r0)) x2 h (pR D h 76 (fun v_8 h_6 => (jfr h 56 (jfr h 23 r1)) ≠ 0 ∧ jin (0 : Int32) (jln h_6 (jfr h 56 (jfr h 23 r1))) ∧ ∀ h_11 : JH, h_11 = war h_6 (jfr h 56 (jfr h 23 r1)) (ixn (0 : Int32)) v_8 → (((jfr h_11 131 r0) = 0 → W_X36_picks_44 D d Q h_11) ∧ ((jfr h_11 131 r0) ≠ 0 → v55_at D d (jfr h_11 131 r0) (jfr h_11 23 r1) h_11 (pR D h_11 8 (fun v_16 h_14 => W_X36_picks_38 D d Q v_16 h_14) (jth Q))))) (jth Q)))))))
theorem w_X36_picks_0 {D : JD} {d : Nat} {Q : JO → JH → Prop} {r0 : Nat} {r1 : Nat} {x2 : Int32} {h : JH} (w : W_X36_picks_0 D d Q r0 r1 x2 h) : JW D (d + 1) mX36_picks 0 [some (vR 58 r0), some (vR 3 r1), some (vI x2)] [] h Q := by
  unfold W_X36_picks_0 at w
  refine jw_aload_n (pc' := 1) rfl rfl ?_
  obtain ⟨g_1, w⟩ := w
  refine jw_getR (pc' := 4) (F := 23) (t' := 6) rfl rfl rfl rfl rfl g_1 ?_
  obtain ⟨g_2, w⟩ := w
  refine jw_getR (pc' := 7) (F := 56) (t' := 142) rfl rfl rfl rfl rfl g_2 ?_
  refine jw_iconst (pc' := 8) (x := (0 : Int32)) rfl rfl ?_
  refine jw_aload_n (pc' := 9) rfl rfl ?_
  obtain ⟨g_3, w⟩ := w
  refine jw_getR (pc' := 12) (F := 130) (t' := 31) rfl rfl rfl rfl rfl g_3 ?_
  obtain ⟨g_4, w⟩ := w
  refine jw_getR (pc' := 15) (F := 138) (t' := 5) rfl rfl rfl rfl rfl g_4 ?_
  refine jw_iload_n (pc' := 16) rfl rfl ?_
  obtain ⟨g_5, w⟩ := w
  refine jw_cR (st := [vI (0 : Int32), vR 142 (jfr h 56 (jfr h 23 r1))]) (sa := [vR 5 (jfr h 138 (jfr h 130 r0)), vI x2]) okX5_row rfl rfl rfl rfl rfl rfl (jstp_virtual (sa := [vI x2]) (st := [vI (0 : Int32), vR 142 (jfr h 56 (jfr h 23 r1))]) (k := 0) rfl rfl sX5_row okX5_row g_5 (one5.k g_5) rfl rfl) w (fun v_8 h_6 _ _ _ w => ?_)
  obtain ⟨g_9, w⟩ := w
  obtain ⟨g_10, w⟩ := w
  refine jw_aast' (pc' := 20) rfl rfl rfl rfl rfl rfl g_9 g_10 (fun h_11 e_12 => ?_)
  replace w := w h_11 e_12
  refine jw_aload_n (pc' := 21) rfl rfl ?_
  refine jw_getR (pc' := 24) (F := 131) (t' := 55) rfl rfl rfl rfl rfl g_3 ?_
  refine jw_ifnull (tgt := 44) (pc' := 27) rfl rfl (fun c_13 => ?_) (fun c_13 => ?_)
  · replace w := w.1 c_13
    refine jw_gen (ls' := [none, none, none]) (st' := []) (trivial) (trivial) ?_
    exact w_X36_picks_44 w
  · replace w := w.2 c_13
    refine jw_aload_n (pc' := 28) rfl rfl ?_
    refine jw_getR (pc' := 31) (F := 131) (t' := 55) rfl rfl rfl rfl rfl g_3 ?_
    refine jw_aload_n (pc' := 32) rfl rfl ?_
    refine jw_getR (pc' := 35) (F := 23) (t' := 6) rfl rfl rfl rfl rfl g_1 ?_
    refine JW.inv (fun hI => JW.oks (fun ho => ?_))
    have hkd := und55.k hI (ho (vR 55 (jfr h_11 131 r0)) (by simp)) c_13
    simp only [List.mem_cons, List.not_mem_nil, or_false] at hkd
    clear ho hI
    rcases hkd with e_17 | e_17 | e_17 | e_17 | e_17 | e_17 | e_17 | e_17 | e_17 | e_17
    · refine jw_gen (ls' := _) (st' := [vR 6 (jfr h_11 23 r1), vR 20 (jfr h_11 131 r0)]) (jgl_rf _ _) (And.intro (Or.inl rfl) (And.intro (Or.inr ⟨_, _, _, rfl, rfl, Or.inr (Or.inr (by rw [e_17]; rfl))⟩) (jgs_rf _ _))) ?_
      refine jw_cR (st := []) (sa := [vR 20 (jfr h_11 131 r0), vR 6 (jfr h_11 23 r1)]) okX25_at rfl rfl rfl rfl rfl rfl (jstp_up (sa := [vR 6 (jfr h_11 23 r1)]) (st := []) rfl (lw_g (jtb_mem (c := 12) (i := 11) rfl) rfl) um28 okX25_at c_13 (fun _ _ => by rw [e_17]; exact ⟨rfl, rfl⟩) rfl rfl) (w.1 e_17) (fun v_16 h_14 _ _ _ w => ?_)
      refine jw_gen (ls' := [none, none, none]) (st' := [vR 8 v_16]) (trivial) (And.intro (Or.inl rfl) (trivial)) ?_
      exact w_X36_picks_38 w
    · refine jw_gen (ls' := _) (st' := [vR 6 (jfr h_11 23 r1), vR 21 (jfr h_11 131 r0)]) (jgl_rf _ _) (And.intro (Or.inl rfl) (And.intro (Or.inr ⟨_, _, _, rfl, rfl, Or.inr (Or.inr (by rw [e_17]; rfl))⟩) (jgs_rf _ _))) ?_
      refine jw_cR (st := []) (sa := [vR 21 (jfr h_11 131 r0), vR 6 (jfr h_11 23 r1)]) okX27_at rfl rfl rfl rfl rfl rfl (jstp_up (sa := [vR 6 (jfr h_11 23 r1)]) (st := []) rfl (lw_g (jtb_mem (c := 12) (i := 11) rfl) rfl) um29 okX27_at c_13 (fun _ _ => by rw [e_17]; exact ⟨rfl, rfl⟩) rfl rfl) (w.2.1 e_17) (fun v_16 h_14 _ _ _ w => ?_)
      refine jw_gen (ls' := [none, none, none]) (st' := [vR 8 v_16]) (trivial) (And.intro (Or.inl rfl) (trivial)) ?_
      exact w_X36_picks_38 w
    · refine jw_gen (ls' := _) (st' := [vR 6 (jfr h_11 23 r1), vR 22 (jfr h_11 131 r0)]) (jgl_rf _ _) (And.intro (Or.inl rfl) (And.intro (Or.inr ⟨_, _, _, rfl, rfl, Or.inr (Or.inr (by rw [e_17]; rfl))⟩) (jgs_rf _ _))) ?_
      refine jw_cR (st := []) (sa := [vR 22 (jfr h_11 131 r0), vR 6 (jfr h_11 23 r1)]) okX28_at rfl rfl rfl rfl rfl rfl (jstp_up (sa := [vR 6 (jfr h_11 23 r1)]) (st := []) rfl (lw_g (jtb_mem (c := 12) (i := 11) rfl) rfl) um30 okX28_at c_13 (fun _ _ => by rw [e_17]; exact ⟨rfl, rfl⟩) rfl rfl) (w.2.2.1 e_17) (fun v_16 h_14 _ _ _ w => ?_)
      refine jw_gen (ls' := [none, none, none]) (st' := [vR 8 v_16]) (trivial) (And.intro (Or.inl rfl) (trivial)) ?_
      exact w_X36_picks_38 w
    · refine jw_gen (ls' := _) (st' := [vR 6 (jfr h_11 23 r1), vR 23 (jfr h_11 131 r0)]) (jgl_rf _ _) (And.intro (Or.inl rfl) (And.intro (Or.inr ⟨_, _, _, rfl, rfl, Or.inr (Or.inr (by rw [e_17]; rfl))⟩) (jgs_rf _ _))) ?_
      refine jw_cR (st := []) (sa := [vR 23 (jfr h_11 131 r0), vR 6 (jfr h_11 23 r1)]) okX29_at rfl rfl rfl rfl rfl rfl (jstp_up (sa := [vR 6 (jfr h_11 23 r1)]) (st := []) rfl (lw_g (jtb_mem (c := 12) (i := 11) rfl) rfl) um31 okX29_at c_13 (fun _ _ => by rw [e_17]; exact ⟨rfl, rfl⟩) rfl rfl) (w.2.2.2.1 e_17) (fun v_16 h_14 _ _ _ w => ?_)
      refine jw_gen (ls' := [none, none, none]) (st' := [vR 8 v_16]) (trivial) (And.intro (Or.inl rfl) (trivial)) ?_
      exact w_X36_picks_38 w
    · refine jw_gen (ls' := _) (st' := [vR 6 (jfr h_11 23 r1), vR 24 (jfr h_11 131 r0)]) (jgl_rf _ _) (And.intro (Or.inl rfl) (And.intro (Or.inr ⟨_, _, _, rfl, rfl, Or.inr (Or.inr (by rw [e_17]; rfl))⟩) (jgs_rf _ _))) ?_
      refine jw_cR (st := []) (sa := [vR 24 (jfr h_11 131 r0), vR 6 (jfr h_11 23 r1)]) okX30_at rfl rfl rfl rfl rfl rfl (jstp_up (sa := [vR 6 (jfr h_11 23 r1)]) (st := []) rfl (lw_g (jtb_mem (c := 12) (i := 11) rfl) rfl) um32 okX30_at c_13 (fun _ _ => by rw [e_17]; exact ⟨rfl, rfl⟩) rfl rfl) (w.2.2.2.2.1 e_17) (fun v_16 h_14 _ _ _ w => ?_)
      refine jw_gen (ls' := [none, none, none]) (st' := [vR 8 v_16]) (trivial) (And.intro (Or.inl rfl) (trivial)) ?_
      exact w_X36_picks_38 w
    · refine jw_gen (ls' := _) (st' := [vR 6 (jfr h_11 23 r1), vR 25 (jfr h_11 131 r0)]) (jgl_rf _ _) (And.intro (Or.inl rfl) (And.intro (Or.inr ⟨_, _, _, rfl, rfl, Or.inr (Or.inr (by rw [e_17]; rfl))⟩) (jgs_rf _ _))) ?_
      refine jw_cR (st := []) (sa := [vR 25 (jfr h_11 131 r0), vR 6 (jfr h_11 23 r1)]) okX31_at rfl rfl rfl rfl rfl rfl (jstp_up (sa := [vR 6 (jfr h_11 23 r1)]) (st := []) rfl (lw_g (jtb_mem (c := 12) (i := 11) rfl) rfl) um33 okX31_at c_13 (fun _ _ => by rw [e_17]; exact ⟨rfl, rfl⟩) rfl rfl) (w.2.2.2.2.2.1 e_17) (fun v_16 h_14 _ _ _ w => ?_)
      refine jw_gen (ls' := [none, none, none]) (st' := [vR 8 v_16]) (trivial) (And.intro (Or.inl rfl) (trivial)) ?_
      exact w_X36_picks_38 w
    · refine jw_gen (ls' := _) (st' := [vR 6 (jfr h_11 23 r1), vR 26 (jfr h_11 131 r0)]) (jgl_rf _ _) (And.intro (Or.inl rfl) (And.intro (Or.inr ⟨_, _, _, rfl, rfl, Or.inr (Or.inr (by rw [e_17]; rfl))⟩) (jgs_rf _ _))) ?_
      refine jw_cR (st := []) (sa := [vR 26 (jfr h_11 131 r0), vR 6 (jfr h_11 23 r1)]) okX32_at rfl rfl rfl rfl rfl rfl (jstp_up (sa := [vR 6 (jfr h_11 23 r1)]) (st := []) rfl (lw_g (jtb_mem (c := 12) (i := 11) rfl) rfl) um34 okX32_at c_13 (fun _ _ => by rw [e_17]; exact ⟨rfl, rfl⟩) rfl rfl) (w.2.2.2.2.2.2.1 e_17) (fun v_16 h_14 _ _ _ w => ?_)
      refine jw_gen (ls' := [none, none, none]) (st' := [vR 8 v_16]) (trivial) (And.intro (Or.inl rfl) (trivial)) ?_
      exact w_X36_picks_38 w
    · refine jw_gen (ls' := _) (st' := [vR 6 (jfr h_11 23 r1), vR 27 (jfr h_11 131 r0)]) (jgl_rf _ _) (And.intro (Or.inl rfl) (And.intro (Or.inr ⟨_, _, _, rfl, rfl, Or.inr (Or.inr (by rw [e_17]; rfl))⟩) (jgs_rf _ _))) ?_
      refine jw_cR (st := []) (sa := [vR 27 (jfr h_11 131 r0), vR 6 (jfr h_11 23 r1)]) okX33_at rfl rfl rfl rfl rfl rfl (jstp_up (sa := [vR 6 (jfr h_11 23 r1)]) (st := []) rfl (lw_g (jtb_mem (c := 12) (i := 11) rfl) rfl) um35 okX33_at c_13 (fun _ _ => by rw [e_17]; exact ⟨rfl, rfl⟩) rfl rfl) (w.2.2.2.2.2.2.2.1 e_17) (fun v_16 h_14 _ _ _ w => ?_)
      refine jw_gen (ls' := [none, none, none]) (st' := [vR 8 v_16]) (trivial) (And.intro (Or.inl rfl) (trivial)) ?_
      exact w_X36_picks_38 w
    · refine jw_gen (ls' := _) (st' := [vR 6 (jfr h_11 23 r1), vR 28 (jfr h_11 131 r0)]) (jgl_rf _ _) (And.intro (Or.inl rfl) (And.intro (Or.inr ⟨_, _, _, rfl, rfl, Or.inr (Or.inr (by rw [e_17]; rfl))⟩) (jgs_rf _ _))) ?_
      refine jw_cR (st := []) (sa := [vR 28 (jfr h_11 131 r0), vR 6 (jfr h_11 23 r1)]) okX34_at rfl rfl rfl rfl rfl rfl (jstp_up (sa := [vR 6 (jfr h_11 23 r1)]) (st := []) rfl (lw_g (jtb_mem (c := 12) (i := 11) rfl) rfl) um36 okX34_at c_13 (fun _ _ => by rw [e_17]; exact ⟨rfl, rfl⟩) rfl rfl) (w.2.2.2.2.2.2.2.2.1 e_17) (fun v_16 h_14 _ _ _ w => ?_)
      refine jw_gen (ls' := [none, none, none]) (st' := [vR 8 v_16]) (trivial) (And.intro (Or.inl rfl) (trivial)) ?_
      exact w_X36_picks_38 w
    · refine jw_gen (ls' := _) (st' := [vR 6 (jfr h_11 23 r1), vR 29 (jfr h_11 131 r0)]) (jgl_rf _ _) (And.intro (Or.inl rfl) (And.intro (Or.inr ⟨_, _, _, rfl, rfl, Or.inr (Or.inr (by rw [e_17]; rfl))⟩) (jgs_rf _ _))) ?_
      refine jw_cR (st := []) (sa := [vR 29 (jfr h_11 131 r0), vR 6 (jfr h_11 23 r1)]) okX35_at rfl rfl rfl rfl rfl rfl (jstp_up (sa := [vR 6 (jfr h_11 23 r1)]) (st := []) rfl (lw_g (jtb_mem (c := 12) (i := 11) rfl) rfl) um37 okX35_at c_13 (fun _ _ => by rw [e_17]; exact ⟨rfl, rfl⟩) rfl rfl) (w.2.2.2.2.2.2.2.2.2 e_17) (fun v_16 h_14 _ _ _ w => ?_)
      refine jw_gen (ls' := [none, none, none]) (st' := [vR 8 v_16]) (trivial) (And.intro (Or.inl rfl) (trivial)) ?_
      exact w_X36_picks_38 w
def T_X36_picks (D : JD) (d : Nat) (Q : JO → JH → Prop) (r0 : Nat) (r1 : Nat) (x2 : Int32) (h : JH) : Prop := W_X36_picks_0 D d Q r0 r1 x2 h
theorem t_X36_picks {D : JD} {d : Nat} {Q : JO → JH → Prop} {r0 : Nat} {r1 : Nat} {x2 : Int32} {h : JH} (w : T_X36_picks D d Q r0 r1 x2 h) : cX36_picks D (d + 1) r0 r1 x2 h Q := by
  unfold T_X36_picks at w
  unfold cX36_picks
  exact w_X36_picks_0 w
def W_X37_init_0 (D : JD) (d : Nat) (Q : JO → JH → Prop) (r0 : Nat) (r1 : Nat) (h : JH) : Prop :=
  r0 ≠ 0 ∧ (cX36_init D d r0 r1 h (pV D h (fun h_2 => ∀ (r_5 : Nat) (h_6 : JH), r_5 = jsz h_2 + 1 → h_6 = nwa h_2 149 10 → (∀ h_9 : JH, h_9 = wfr h_6 132 r0 r_5 → (∀ (r_11 : Nat) (h_12 : JH), r_11 = jsz h_9 + 1 → h_12 = nwa h_9 150 10 → (∀ h_15 : JH, h_15 = wfr h_12 133 r0 r_11 → (∀ (r_17 : Nat) (h_18 : JH), r_17 = jsz h_15 + 1 → h_18 = nwa h_15 151 10 → (∀ h_21 : JH, h_21 = wfr h_18 134 r0 r_17 → (Q (.inl none) h_21))))))) (jth Q)))
theorem w_X37_init_0 {D : JD} {d : Nat} {Q : JO → JH → Prop} {r0 : Nat} {r1 : Nat} {h : JH} (w : W_X37_init_0 D d Q r0 r1 h) : JW D (d + 1) mX37_init 0 [some (vR 30 r0), some (vR 64 r1)] [] h Q := by
  unfold W_X37_init_0 at w
  refine jw_aload_n (pc' := 1) rfl rfl ?_
  refine jw_aload_n (pc' := 2) rfl rfl ?_
  obtain ⟨g_1, w⟩ := w
  refine jw_cV (st := []) (sa := [vR 30 r0, vR 64 r1]) okX36_init rfl rfl rfl rfl rfl rfl (jstp_init (sa := [vR 64 r1]) (st := []) rfl rfl sX36_init okX36_init (lw_g (jtb_mem (c := 8) (i := 199) rfl) rfl) g_1 rfl rfl) w (fun h_2 _ _ w => ?_)
  refine jw_aload_n (pc' := 6) rfl rfl ?_
  refine jw_bipush (pc' := 8) (x := (10 : Int32)) rfl rfl ?_
  refine jw_anew' (pc' := 11) (n := 10) (k := 149) rfl rfl rfl rfl rfl rfl rfl (jtb_mem (c := 6) (i := 222) rfl) ⟨by decide, rfl⟩ rfl (fun r_5 h_6 e_7 e_8 => ?_)
  replace w := w r_5 h_6 e_7 e_8
  refine jw_putR' (pc' := 14) (F := 132) rfl rfl rfl (Or.inr rfl) (Or.inr ⟨rfl, rfl⟩) rfl rfl rfl g_1 (fun h_9 e_10 => ?_)
  replace w := w h_9 e_10
  refine jw_aload_n (pc' := 15) rfl rfl ?_
  refine jw_bipush (pc' := 17) (x := (10 : Int32)) rfl rfl ?_
  refine jw_anew' (pc' := 20) (n := 10) (k := 150) rfl rfl rfl rfl rfl rfl rfl (jtb_mem (c := 1) (i := 180) rfl) ⟨by decide, rfl⟩ rfl (fun r_11 h_12 e_13 e_14 => ?_)
  replace w := w r_11 h_12 e_13 e_14
  refine jw_putR' (pc' := 23) (F := 133) rfl rfl rfl (Or.inr rfl) (Or.inr ⟨rfl, rfl⟩) rfl rfl rfl g_1 (fun h_15 e_16 => ?_)
  replace w := w h_15 e_16
  refine jw_aload_n (pc' := 24) rfl rfl ?_
  refine jw_bipush (pc' := 26) (x := (10 : Int32)) rfl rfl ?_
  refine jw_newa' (pc' := 28) (n := 10) (k := 151) rfl rfl rfl rfl rfl rfl (lw_g (jtb_mem (c := 2) (i := 11) rfl) rfl) ⟨by decide, rfl⟩ (by decide) (fun r_17 h_18 e_19 e_20 => ?_)
  replace w := w r_17 h_18 e_19 e_20
  refine jw_putR' (pc' := 31) (F := 134) rfl rfl rfl (Or.inr rfl) (Or.inr ⟨rfl, rfl⟩) rfl rfl rfl g_1 (fun h_21 e_22 => ?_)
  replace w := w h_21 e_22
  exact jw_return rfl rfl w
def T_X37_init (D : JD) (d : Nat) (Q : JO → JH → Prop) (r0 : Nat) (r1 : Nat) (h : JH) : Prop := W_X37_init_0 D d Q r0 r1 h
theorem t_X37_init {D : JD} {d : Nat} {Q : JO → JH → Prop} {r0 : Nat} {r1 : Nat} {h : JH} (w : T_X37_init D d Q r0 r1 h) : cX37_init D (d + 1) r0 r1 h Q := by
  unfold T_X37_init at w
  unfold cX37_init
  exact w_X37_init_0 w
def W_X37_full_14 (D : JD) (d : Nat) (Q : JO → JH → Prop) (s0 : Int32) (h : JH) : Prop :=
  jbo s0 ∧ (Q (.inl (some (vI s0))) h)
theorem w_X37_full_14 {D : JD} {d : Nat} {Q : JO → JH → Prop} {s0 : Int32} {h : JH} (w : W_X37_full_14 D d Q s0 h) : JW D (d + 1) mX37_full 14 [none] [vI s0] h Q := by
  unfold W_X37_full_14 at w
  obtain ⟨g_1, w⟩ := w
  exact jw_ireturn rfl rfl (g_1.nr) w
def W_X37_full_0 (D : JD) (d : Nat) (Q : JO → JH → Prop) (r0 : Nat) (h : JH) : Prop :=
  r0 ≠ 0 ∧ ((¬ (jfi h 135 r0) = (10 : Int32) → W_X37_full_14 D d Q (0 : Int32) h) ∧ ((jfi h 135 r0) = (10 : Int32) → W_X37_full_14 D d Q (1 : Int32) h))
theorem w_X37_full_0 {D : JD} {d : Nat} {Q : JO → JH → Prop} {r0 : Nat} {h : JH} (w : W_X37_full_0 D d Q r0 h) : JW D (d + 1) mX37_full 0 [some (vR 30 r0)] [] h Q := by
  unfold W_X37_full_0 at w
  refine jw_aload_n (pc' := 1) rfl rfl ?_
  obtain ⟨g_1, w⟩ := w
  refine jw_getI (pc' := 4) (F := 135) rfl rfl rfl rfl g_1 ?_
  refine jw_bipush (pc' := 6) (x := (10 : Int32)) rfl rfl ?_
  refine jw_icmp_ne (tgt := 13) (pc' := 9) rfl rfl (fun c_2 => ?_) (fun c_2 => ?_)
  · replace w := w.1 c_2
    refine jw_iconst (pc' := 14) (x := (0 : Int32)) rfl rfl ?_
    refine jw_gen (ls' := [none]) (st' := [vI (0 : Int32)]) (trivial) (And.intro (Or.inl rfl) (trivial)) ?_
    exact w_X37_full_14 w
  · replace w := w.2 c_2
    refine jw_iconst (pc' := 10) (x := (1 : Int32)) rfl rfl ?_
    refine jw_goto (pc' := 14) rfl rfl ?_
    refine jw_gen (ls' := [none]) (st' := [vI (1 : Int32)]) (trivial) (And.intro (Or.inl rfl) (trivial)) ?_
    exact w_X37_full_14 w
def T_X37_full (D : JD) (d : Nat) (Q : JO → JH → Prop) (r0 : Nat) (h : JH) : Prop := W_X37_full_0 D d Q r0 h
theorem t_X37_full {D : JD} {d : Nat} {Q : JO → JH → Prop} {r0 : Nat} {h : JH} (w : T_X37_full D d Q r0 h) : cX37_full D (d + 1) r0 h Q := by
  unfold T_X37_full at w
  unfold cX37_full
  exact w_X37_full_0 w
def W_X37_set_0 (D : JD) (d : Nat) (Q : JO → JH → Prop) (r0 : Nat) (r1 : Nat) (r2 : Nat) (h : JH) : Prop :=
  r0 ≠ 0 ∧ ((jfr h 132 r0) ≠ 0 ∧ jin (jfi h 135 r0) (jln h (jfr h 132 r0)) ∧ ∀ h_4 : JH, h_4 = war h (jfr h 132 r0) (ixn (jfi h 135 r0)) r1 → ((jfr h_4 133 r0) ≠ 0 ∧ jin (jfi h_4 135 r0) (jln h_4 (jfr h_4 133 r0)) ∧ ∀ h_8 : JH, h_8 = war h_4 (jfr h_4 133 r0) (ixn (jfi h_4 135 r0)) r2 → (∀ h_10 : JH, h_10 = wfi h_8 135 r0 ((jfi h_8 135 r0) + (1 : Int32)) → (Q (.inl none) h_10))))
theorem w_X37_set_0 {D : JD} {d : Nat} {Q : JO → JH → Prop} {r0 : Nat} {r1 : Nat} {r2 : Nat} {h : JH} (w : W_X37_set_0 D d Q r0 r1 r2 h) : JW D (d + 1) mX37_set 0 [some (vR 30 r0), some (vR 64 r1), some (vR 55 r2)] [] h Q := by
  unfold W_X37_set_0 at w
  refine jw_aload_n (pc' := 1) rfl rfl ?_
  obtain ⟨g_1, w⟩ := w
  refine jw_getR (pc' := 4) (F := 132) (t' := 149) rfl rfl rfl rfl rfl g_1 ?_
  refine jw_aload_n (pc' := 5) rfl rfl ?_
  refine jw_getI (pc' := 8) (F := 135) rfl rfl rfl rfl g_1 ?_
  refine jw_aload_n (pc' := 9) rfl rfl ?_
  obtain ⟨g_2, w⟩ := w
  obtain ⟨g_3, w⟩ := w
  refine jw_aast' (pc' := 10) rfl rfl rfl rfl rfl rfl g_2 g_3 (fun h_4 e_5 => ?_)
  replace w := w h_4 e_5
  refine jw_aload_n (pc' := 11) rfl rfl ?_
  refine jw_getR (pc' := 14) (F := 133) (t' := 150) rfl rfl rfl rfl rfl g_1 ?_
  refine jw_aload_n (pc' := 15) rfl rfl ?_
  refine jw_getI (pc' := 18) (F := 135) rfl rfl rfl rfl g_1 ?_
  refine jw_aload_n (pc' := 19) rfl rfl ?_
  obtain ⟨g_6, w⟩ := w
  obtain ⟨g_7, w⟩ := w
  refine jw_aast' (pc' := 20) rfl rfl rfl rfl rfl rfl g_6 g_7 (fun h_8 e_9 => ?_)
  replace w := w h_8 e_9
  refine jw_aload_n (pc' := 21) rfl rfl ?_
  refine jw_dup (pc' := 22) rfl rfl ?_
  refine jw_getI (pc' := 25) (F := 135) rfl rfl rfl rfl g_1 ?_
  refine jw_iconst (pc' := 26) (x := (1 : Int32)) rfl rfl ?_
  refine jw_iadd (pc' := 27) rfl ?_
  refine jw_putI' (pc' := 30) (F := 135) rfl rfl rfl (Or.inr rfl) (Or.inl rfl) rfl (rfl) (rfl) rfl g_1 (fun h_10 e_11 => ?_)
  replace w := w h_10 e_11
  exact jw_return rfl rfl w
def T_X37_set (D : JD) (d : Nat) (Q : JO → JH → Prop) (r0 : Nat) (r1 : Nat) (r2 : Nat) (h : JH) : Prop := W_X37_set_0 D d Q r0 r1 r2 h
theorem t_X37_set {D : JD} {d : Nat} {Q : JO → JH → Prop} {r0 : Nat} {r1 : Nat} {r2 : Nat} {h : JH} (w : T_X37_set D d Q r0 r1 r2 h) : cX37_set D (d + 1) r0 r1 r2 h Q := by
  unfold T_X37_set at w
  unfold cX37_set
  exact w_X37_set_0 w
def W_X37_where_0 (D : JD) (d : Nat) (Q : JO → JH → Prop) (r0 : Nat) (r1 : Nat) (h : JH) : Prop :=
  r0 ≠ 0 ∧ ∀ h_2 : JH, h_2 = wfr h 131 r0 r1 → (Q (.inl none) h_2)
theorem w_X37_where_0 {D : JD} {d : Nat} {Q : JO → JH → Prop} {r0 : Nat} {r1 : Nat} {h : JH} (w : W_X37_where_0 D d Q r0 r1 h) : JW D (d + 1) mX37_where 0 [some (vR 30 r0), some (vR 55 r1)] [] h Q := by
  unfold W_X37_where_0 at w
  refine jw_aload_n (pc' := 1) rfl rfl ?_
  refine jw_aload_n (pc' := 2) rfl rfl ?_
  obtain ⟨g_1, w⟩ := w
  refine jw_putR' (pc' := 5) (F := 131) rfl rfl rfl (Or.inr rfl) (Or.inl rfl) rfl rfl rfl g_1 (fun h_2 e_3 => ?_)
  replace w := w h_2 e_3
  exact jw_return rfl rfl w
def T_X37_where (D : JD) (d : Nat) (Q : JO → JH → Prop) (r0 : Nat) (r1 : Nat) (h : JH) : Prop := W_X37_where_0 D d Q r0 r1 h
theorem t_X37_where {D : JD} {d : Nat} {Q : JO → JH → Prop} {r0 : Nat} {r1 : Nat} {h : JH} (w : T_X37_where D d Q r0 r1 h) : cX37_where D (d + 1) r0 r1 h Q := by
  unfold T_X37_where at w
  unfold cX37_where
  exact w_X37_where_0 w
def W_X37_check_99 (D : JD) (d : Nat) (Q : JO → JH → Prop) (K7 : Nat → Nat → Int32 → JH → Prop) (r0 : Nat) (r1 : Nat) (x2 : Int32) (q0 : Nat) (h : JH) : Prop :=
  r0 ≠ 0 ∧ ((jfr h 130 r0) ≠ 0 ∧ ((jfr h 138 (jfr h 130 r0)) ≠ 0 ∧ ((jfr h 134 r0) ≠ 0 ∧ jin x2 (jln h (jfr h 134 r0)) ∧ ((jfr h 43 (jfr h 138 (jfr h 130 r0))) ≠ 0 ∧ jin (jai h (jfr h 134 r0) (ixn x2)) (jln h (jfr h 43 (jfr h 138 (jfr h 130 r0)))) ∧ ((jar h (jfr h 43 (jfr h 138 (jfr h 130 r0))) (ixn (jai h (jfr h 134 r0) (ixn x2)))) ≠ 0 ∧ (cX24_need D d q0 (jfr h 93 (jar h (jfr h 43 (jfr h 138 (jfr h 130 r0))) (ixn (jai h (jfr h 134 r0) (ixn x2))))) h (pV D h (fun h_9 => K7 r0 r1 (x2 + (1 : Int32)) h_9) (jth Q))))))))
theorem w_X37_check_99 {D : JD} {d : Nat} {Q : JO → JH → Prop} {K7 : Nat → Nat → Int32 → JH → Prop} {r0 : Nat} {r1 : Nat} {x2 : Int32} {q0 : Nat} {h : JH} (hK7 : ∀ (r0 : Nat) (r1 : Nat) (x2 : Int32) (h : JH), K7 r0 r1 x2 h → JW D (d + 1) mX37_check 7 [some (vR 30 r0), some (vR 3 r1), some (vI x2), none] [] h Q) (w : W_X37_check_99 D d Q K7 r0 r1 x2 q0 h) : JW D (d + 1) mX37_check 99 [some (vR 30 r0), some (vR 3 r1), some (vI x2), none] [vR 52 q0] h Q := by
  unfold W_X37_check_99 at w
  refine jw_aload_n (pc' := 100) rfl rfl ?_
  obtain ⟨g_1, w⟩ := w
  refine jw_getR (pc' := 103) (F := 130) (t' := 31) rfl rfl rfl rfl rfl g_1 ?_
  obtain ⟨g_2, w⟩ := w
  refine jw_getR (pc' := 106) (F := 138) (t' := 5) rfl rfl rfl rfl rfl g_2 ?_
  obtain ⟨g_3, w⟩ := w
  refine jw_getR (pc' := 109) (F := 43) (t' := 82) rfl rfl rfl rfl rfl g_3 ?_
  refine jw_aload_n (pc' := 110) rfl rfl ?_
  refine jw_getR (pc' := 113) (F := 134) (t' := 151) rfl rfl rfl rfl rfl g_1 ?_
  refine jw_iload_n (pc' := 114) rfl rfl ?_
  obtain ⟨g_4, w⟩ := w
  obtain ⟨g_5, w⟩ := w
  refine jw_iald (pc' := 115) rfl rfl rfl rfl g_4 g_5.ix g_5.2 ?_
  obtain ⟨g_6, w⟩ := w
  obtain ⟨g_7, w⟩ := w
  refine jw_aald (pc' := 116) (t' := 16) rfl rfl rfl rfl g_6 g_7.ix g_7.2 ?_
  obtain ⟨g_8, w⟩ := w
  refine jw_getR (pc' := 119) (F := 93) (t' := 52) rfl rfl rfl rfl rfl g_8 ?_
  refine jw_cV (st := []) (sa := [vR 52 q0, vR 52 (jfr h 93 (jar h (jfr h 43 (jfr h 138 (jfr h 130 r0))) (ixn (jai h (jfr h 134 r0) (ixn x2)))))]) okX24_need rfl rfl rfl rfl rfl rfl (jstp_static (sa := [vR 52 q0, vR 52 (jfr h 93 (jar h (jfr h 43 (jfr h 138 (jfr h 130 r0))) (ixn (jai h (jfr h 134 r0) (ixn x2)))))]) (st := []) rfl rfl sX24_need okX24_need rfl rfl) w (fun h_9 _ _ w => ?_)
  refine jw_iinc (pc' := 125) (y := x2 + (1 : Int32)) (ls' := [some (vR 30 r0), some (vR 3 r1), some (vI (x2 + (1 : Int32))), none]) rfl (by decide) rfl rfl rfl ?_
  refine jw_goto (pc' := 7) rfl rfl ?_
  exact hK7 _ _ _ _ w
def W_X37_check_54 (D : JD) (d : Nat) (Q : JO → JH → Prop) (K7 : Nat → Nat → Int32 → JH → Prop) (K54 : Nat → Nat → Int32 → Int32 → JH → Prop) (r0 : Nat) (r1 : Nat) (x2 : Int32) (x3 : Int32) (h : JH) : Prop :=
  (x2 ≤ x3 → r0 ≠ 0 ∧ ((jfr h 133 r0) ≠ 0 ∧ jin x2 (jln h (jfr h 133 r0)) ∧ (r1 ≠ 0 ∧ ((jar h (jfr h 133 r0) (ixn x2)) ≠ 0 ∧ (v55_check D d (jar h (jfr h 133 r0) (ixn x2)) (jfr h 23 r1) h (pR D h 52 (fun v_9 h_7 => W_X37_check_99 D d Q K7 r0 r1 x2 v_9 h_7) (jth Q))))))) ∧ (¬ x2 ≤ x3 → r0 ≠ 0 ∧ ((jfr h 134 r0) ≠ 0 ∧ jin x3 (jln h (jfr h 134 r0)) ∧ (jin x2 (jln h (jfr h 134 r0)) ∧ ((¬ (jai h (jfr h 134 r0) (ixn x3)) = (jai h (jfr h 134 r0) (ixn x2)) → K54 r0 r1 x2 (x3 + (1 : Int32)) h) ∧ ((jai h (jfr h 134 r0) (ixn x3)) = (jai h (jfr h 134 r0) (ixn x2)) → cX1_fault D d (jcs D 184) h (pR D h 9 (fun v_18 h_16 => v_18 ≠ 0 ∧ (Q (.inr v_18) h_16)) (jth Q)))))))
theorem w_X37_check_54 {D : JD} {d : Nat} {Q : JO → JH → Prop} {K7 : Nat → Nat → Int32 → JH → Prop} {K54 : Nat → Nat → Int32 → Int32 → JH → Prop} {r0 : Nat} {r1 : Nat} {x2 : Int32} {x3 : Int32} {h : JH} (hK7 : ∀ (r0 : Nat) (r1 : Nat) (x2 : Int32) (h : JH), K7 r0 r1 x2 h → JW D (d + 1) mX37_check 7 [some (vR 30 r0), some (vR 3 r1), some (vI x2), none] [] h Q) (hK54 : ∀ (r0 : Nat) (r1 : Nat) (x2 : Int32) (x3 : Int32) (h : JH), K54 r0 r1 x2 x3 h → JW D (d + 1) mX37_check 54 [some (vR 30 r0), some (vR 3 r1), some (vI x2), some (vI x3)] [] h Q) (w : W_X37_check_54 D d Q K7 K54 r0 r1 x2 x3 h) : JW D (d + 1) mX37_check 54 [some (vR 30 r0), some (vR 3 r1), some (vI x2), some (vI x3)] [] h Q := by
  unfold W_X37_check_54 at w
  refine jw_iload_n (pc' := 55) rfl rfl ?_
  refine jw_iload_n (pc' := 56) rfl rfl ?_
  refine jw_icmp_ge (tgt := 86) (pc' := 59) rfl rfl (fun c_1 => ?_) (fun c_1 => ?_)
  · replace w := w.1 c_1
    refine jw_aload_n (pc' := 87) rfl rfl ?_
    obtain ⟨g_2, w⟩ := w
    refine jw_getR (pc' := 90) (F := 133) (t' := 150) rfl rfl rfl rfl rfl g_2 ?_
    refine jw_iload_n (pc' := 91) rfl rfl ?_
    obtain ⟨g_3, w⟩ := w
    obtain ⟨g_4, w⟩ := w
    refine jw_aald (pc' := 92) (t' := 55) rfl rfl rfl rfl g_3 g_4.ix g_4.2 ?_
    refine jw_aload_n (pc' := 93) rfl rfl ?_
    obtain ⟨g_5, w⟩ := w
    refine jw_getR (pc' := 96) (F := 23) (t' := 6) rfl rfl rfl rfl rfl g_5 ?_
    obtain ⟨g_6, w⟩ := w
    refine JW.inv (fun hI => JW.oks (fun ho => ?_))
    have hkd := und55.k hI (ho (vR 55 (jar h (jfr h 133 r0) (ixn x2))) (by simp)) g_6
    simp only [List.mem_cons, List.not_mem_nil, or_false] at hkd
    clear ho hI
    rcases hkd with e_10 | e_10 | e_10 | e_10 | e_10 | e_10 | e_10 | e_10 | e_10 | e_10
    · refine jw_gen (ls' := _) (st' := [vR 6 (jfr h 23 r1), vR 20 (jar h (jfr h 133 r0) (ixn x2))]) (jgl_rf _ _) (And.intro (Or.inl rfl) (And.intro (Or.inr ⟨_, _, _, rfl, rfl, Or.inr (Or.inr (by rw [e_10]; rfl))⟩) (jgs_rf _ _))) ?_
      refine jw_cR (st := []) (sa := [vR 20 (jar h (jfr h 133 r0) (ixn x2)), vR 6 (jfr h 23 r1)]) okX25_check rfl rfl rfl rfl rfl rfl (jstp_up (sa := [vR 6 (jfr h 23 r1)]) (st := []) rfl (lw_g (jtb_mem (c := 11) (i := 204) rfl) rfl) um18 okX25_check g_6 (fun _ _ => by rw [e_10]; exact ⟨rfl, rfl⟩) rfl rfl) (w.1 e_10) (fun v_9 h_7 _ _ _ w => ?_)
      refine jw_gen (ls' := [some (vR 30 r0), some (vR 3 r1), some (vI x2), none]) (st' := [vR 52 v_9]) (And.intro (Or.inl rfl) (And.intro (Or.inl rfl) (And.intro (Or.inl rfl) (trivial)))) (And.intro (Or.inl rfl) (trivial)) ?_
      exact w_X37_check_99 hK7 w
    · refine jw_gen (ls' := _) (st' := [vR 6 (jfr h 23 r1), vR 21 (jar h (jfr h 133 r0) (ixn x2))]) (jgl_rf _ _) (And.intro (Or.inl rfl) (And.intro (Or.inr ⟨_, _, _, rfl, rfl, Or.inr (Or.inr (by rw [e_10]; rfl))⟩) (jgs_rf _ _))) ?_
      refine jw_cR (st := []) (sa := [vR 21 (jar h (jfr h 133 r0) (ixn x2)), vR 6 (jfr h 23 r1)]) okX27_check rfl rfl rfl rfl rfl rfl (jstp_up (sa := [vR 6 (jfr h 23 r1)]) (st := []) rfl (lw_g (jtb_mem (c := 11) (i := 204) rfl) rfl) um19 okX27_check g_6 (fun _ _ => by rw [e_10]; exact ⟨rfl, rfl⟩) rfl rfl) (w.2.1 e_10) (fun v_9 h_7 _ _ _ w => ?_)
      refine jw_gen (ls' := [some (vR 30 r0), some (vR 3 r1), some (vI x2), none]) (st' := [vR 52 v_9]) (And.intro (Or.inl rfl) (And.intro (Or.inl rfl) (And.intro (Or.inl rfl) (trivial)))) (And.intro (Or.inl rfl) (trivial)) ?_
      exact w_X37_check_99 hK7 w
    · refine jw_gen (ls' := _) (st' := [vR 6 (jfr h 23 r1), vR 22 (jar h (jfr h 133 r0) (ixn x2))]) (jgl_rf _ _) (And.intro (Or.inl rfl) (And.intro (Or.inr ⟨_, _, _, rfl, rfl, Or.inr (Or.inr (by rw [e_10]; rfl))⟩) (jgs_rf _ _))) ?_
      refine jw_cR (st := []) (sa := [vR 22 (jar h (jfr h 133 r0) (ixn x2)), vR 6 (jfr h 23 r1)]) okX28_check rfl rfl rfl rfl rfl rfl (jstp_up (sa := [vR 6 (jfr h 23 r1)]) (st := []) rfl (lw_g (jtb_mem (c := 11) (i := 204) rfl) rfl) um20 okX28_check g_6 (fun _ _ => by rw [e_10]; exact ⟨rfl, rfl⟩) rfl rfl) (w.2.2.1 e_10) (fun v_9 h_7 _ _ _ w => ?_)
      refine jw_gen (ls' := [some (vR 30 r0), some (vR 3 r1), some (vI x2), none]) (st' := [vR 52 v_9]) (And.intro (Or.inl rfl) (And.intro (Or.inl rfl) (And.intro (Or.inl rfl) (trivial)))) (And.intro (Or.inl rfl) (trivial)) ?_
      exact w_X37_check_99 hK7 w
    · refine jw_gen (ls' := _) (st' := [vR 6 (jfr h 23 r1), vR 23 (jar h (jfr h 133 r0) (ixn x2))]) (jgl_rf _ _) (And.intro (Or.inl rfl) (And.intro (Or.inr ⟨_, _, _, rfl, rfl, Or.inr (Or.inr (by rw [e_10]; rfl))⟩) (jgs_rf _ _))) ?_
      refine jw_cR (st := []) (sa := [vR 23 (jar h (jfr h 133 r0) (ixn x2)), vR 6 (jfr h 23 r1)]) okX29_check rfl rfl rfl rfl rfl rfl (jstp_up (sa := [vR 6 (jfr h 23 r1)]) (st := []) rfl (lw_g (jtb_mem (c := 11) (i := 204) rfl) rfl) um21 okX29_check g_6 (fun _ _ => by rw [e_10]; exact ⟨rfl, rfl⟩) rfl rfl) (w.2.2.2.1 e_10) (fun v_9 h_7 _ _ _ w => ?_)
      refine jw_gen (ls' := [some (vR 30 r0), some (vR 3 r1), some (vI x2), none]) (st' := [vR 52 v_9]) (And.intro (Or.inl rfl) (And.intro (Or.inl rfl) (And.intro (Or.inl rfl) (trivial)))) (And.intro (Or.inl rfl) (trivial)) ?_
      exact w_X37_check_99 hK7 w
    · refine jw_gen (ls' := _) (st' := [vR 6 (jfr h 23 r1), vR 24 (jar h (jfr h 133 r0) (ixn x2))]) (jgl_rf _ _) (And.intro (Or.inl rfl) (And.intro (Or.inr ⟨_, _, _, rfl, rfl, Or.inr (Or.inr (by rw [e_10]; rfl))⟩) (jgs_rf _ _))) ?_
      refine jw_cR (st := []) (sa := [vR 24 (jar h (jfr h 133 r0) (ixn x2)), vR 6 (jfr h 23 r1)]) okX30_check rfl rfl rfl rfl rfl rfl (jstp_up (sa := [vR 6 (jfr h 23 r1)]) (st := []) rfl (lw_g (jtb_mem (c := 11) (i := 204) rfl) rfl) um22 okX30_check g_6 (fun _ _ => by rw [e_10]; exact ⟨rfl, rfl⟩) rfl rfl) (w.2.2.2.2.1 e_10) (fun v_9 h_7 _ _ _ w => ?_)
      refine jw_gen (ls' := [some (vR 30 r0), some (vR 3 r1), some (vI x2), none]) (st' := [vR 52 v_9]) (And.intro (Or.inl rfl) (And.intro (Or.inl rfl) (And.intro (Or.inl rfl) (trivial)))) (And.intro (Or.inl rfl) (trivial)) ?_
      exact w_X37_check_99 hK7 w
    · refine jw_gen (ls' := _) (st' := [vR 6 (jfr h 23 r1), vR 25 (jar h (jfr h 133 r0) (ixn x2))]) (jgl_rf _ _) (And.intro (Or.inl rfl) (And.intro (Or.inr ⟨_, _, _, rfl, rfl, Or.inr (Or.inr (by rw [e_10]; rfl))⟩) (jgs_rf _ _))) ?_
      refine jw_cR (st := []) (sa := [vR 25 (jar h (jfr h 133 r0) (ixn x2)), vR 6 (jfr h 23 r1)]) okX31_check rfl rfl rfl rfl rfl rfl (jstp_up (sa := [vR 6 (jfr h 23 r1)]) (st := []) rfl (lw_g (jtb_mem (c := 11) (i := 204) rfl) rfl) um23 okX31_check g_6 (fun _ _ => by rw [e_10]; exact ⟨rfl, rfl⟩) rfl rfl) (w.2.2.2.2.2.1 e_10) (fun v_9 h_7 _ _ _ w => ?_)
      refine jw_gen (ls' := [some (vR 30 r0), some (vR 3 r1), some (vI x2), none]) (st' := [vR 52 v_9]) (And.intro (Or.inl rfl) (And.intro (Or.inl rfl) (And.intro (Or.inl rfl) (trivial)))) (And.intro (Or.inl rfl) (trivial)) ?_
      exact w_X37_check_99 hK7 w
    · refine jw_gen (ls' := _) (st' := [vR 6 (jfr h 23 r1), vR 26 (jar h (jfr h 133 r0) (ixn x2))]) (jgl_rf _ _) (And.intro (Or.inl rfl) (And.intro (Or.inr ⟨_, _, _, rfl, rfl, Or.inr (Or.inr (by rw [e_10]; rfl))⟩) (jgs_rf _ _))) ?_
      refine jw_cR (st := []) (sa := [vR 26 (jar h (jfr h 133 r0) (ixn x2)), vR 6 (jfr h 23 r1)]) okX32_check rfl rfl rfl rfl rfl rfl (jstp_up (sa := [vR 6 (jfr h 23 r1)]) (st := []) rfl (lw_g (jtb_mem (c := 11) (i := 204) rfl) rfl) um24 okX32_check g_6 (fun _ _ => by rw [e_10]; exact ⟨rfl, rfl⟩) rfl rfl) (w.2.2.2.2.2.2.1 e_10) (fun v_9 h_7 _ _ _ w => ?_)
      refine jw_gen (ls' := [some (vR 30 r0), some (vR 3 r1), some (vI x2), none]) (st' := [vR 52 v_9]) (And.intro (Or.inl rfl) (And.intro (Or.inl rfl) (And.intro (Or.inl rfl) (trivial)))) (And.intro (Or.inl rfl) (trivial)) ?_
      exact w_X37_check_99 hK7 w
    · refine jw_gen (ls' := _) (st' := [vR 6 (jfr h 23 r1), vR 27 (jar h (jfr h 133 r0) (ixn x2))]) (jgl_rf _ _) (And.intro (Or.inl rfl) (And.intro (Or.inr ⟨_, _, _, rfl, rfl, Or.inr (Or.inr (by rw [e_10]; rfl))⟩) (jgs_rf _ _))) ?_
      refine jw_cR (st := []) (sa := [vR 27 (jar h (jfr h 133 r0) (ixn x2)), vR 6 (jfr h 23 r1)]) okX33_check rfl rfl rfl rfl rfl rfl (jstp_up (sa := [vR 6 (jfr h 23 r1)]) (st := []) rfl (lw_g (jtb_mem (c := 11) (i := 204) rfl) rfl) um25 okX33_check g_6 (fun _ _ => by rw [e_10]; exact ⟨rfl, rfl⟩) rfl rfl) (w.2.2.2.2.2.2.2.1 e_10) (fun v_9 h_7 _ _ _ w => ?_)
      refine jw_gen (ls' := [some (vR 30 r0), some (vR 3 r1), some (vI x2), none]) (st' := [vR 52 v_9]) (And.intro (Or.inl rfl) (And.intro (Or.inl rfl) (And.intro (Or.inl rfl) (trivial)))) (And.intro (Or.inl rfl) (trivial)) ?_
      exact w_X37_check_99 hK7 w
    · refine jw_gen (ls' := _) (st' := [vR 6 (jfr h 23 r1), vR 28 (jar h (jfr h 133 r0) (ixn x2))]) (jgl_rf _ _) (And.intro (Or.inl rfl) (And.intro (Or.inr ⟨_, _, _, rfl, rfl, Or.inr (Or.inr (by rw [e_10]; rfl))⟩) (jgs_rf _ _))) ?_
      refine jw_cR (st := []) (sa := [vR 28 (jar h (jfr h 133 r0) (ixn x2)), vR 6 (jfr h 23 r1)]) okX34_check rfl rfl rfl rfl rfl rfl (jstp_up (sa := [vR 6 (jfr h 23 r1)]) (st := []) rfl (lw_g (jtb_mem (c := 11) (i := 204) rfl) rfl) um26 okX34_check g_6 (fun _ _ => by rw [e_10]; exact ⟨rfl, rfl⟩) rfl rfl) (w.2.2.2.2.2.2.2.2.1 e_10) (fun v_9 h_7 _ _ _ w => ?_)
      refine jw_gen (ls' := [some (vR 30 r0), some (vR 3 r1), some (vI x2), none]) (st' := [vR 52 v_9]) (And.intro (Or.inl rfl) (And.intro (Or.inl rfl) (And.intro (Or.inl rfl) (trivial)))) (And.intro (Or.inl rfl) (trivial)) ?_
      exact w_X37_check_99 hK7 w
    · refine jw_gen (ls' := _) (st' := [vR 6 (jfr h 23 r1), vR 29 (jar h (jfr h 133 r0) (ixn x2))]) (jgl_rf _ _) (And.intro (Or.inl rfl) (And.intro (Or.inr ⟨_, _, _, rfl, rfl, Or.inr (Or.inr (by rw [e_10]; rfl))⟩) (jgs_rf _ _))) ?_
      refine jw_cR (st := []) (sa := [vR 29 (jar h (jfr h 133 r0) (ixn x2)), vR 6 (jfr h 23 r1)]) okX35_check rfl rfl rfl rfl rfl rfl (jstp_up (sa := [vR 6 (jfr h 23 r1)]) (st := []) rfl (lw_g (jtb_mem (c := 11) (i := 204) rfl) rfl) um27 okX35_check g_6 (fun _ _ => by rw [e_10]; exact ⟨rfl, rfl⟩) rfl rfl) (w.2.2.2.2.2.2.2.2.2 e_10) (fun v_9 h_7 _ _ _ w => ?_)
      refine jw_gen (ls' := [some (vR 30 r0), some (vR 3 r1), some (vI x2), none]) (st' := [vR 52 v_9]) (And.intro (Or.inl rfl) (And.intro (Or.inl rfl) (And.intro (Or.inl rfl) (trivial)))) (And.intro (Or.inl rfl) (trivial)) ?_
      exact w_X37_check_99 hK7 w
  · replace w := w.2 c_1
    refine jw_aload_n (pc' := 60) rfl rfl ?_
    obtain ⟨g_11, w⟩ := w
    refine jw_getR (pc' := 63) (F := 134) (t' := 151) rfl rfl rfl rfl rfl g_11 ?_
    refine jw_iload_n (pc' := 64) rfl rfl ?_
    obtain ⟨g_12, w⟩ := w
    obtain ⟨g_13, w⟩ := w
    refine jw_iald (pc' := 65) rfl rfl rfl rfl g_12 g_13.ix g_13.2 ?_
    refine jw_aload_n (pc' := 66) rfl rfl ?_
    refine jw_getR (pc' := 69) (F := 134) (t' := 151) rfl rfl rfl rfl rfl g_11 ?_
    refine jw_iload_n (pc' := 70) rfl rfl ?_
    obtain ⟨g_14, w⟩ := w
    refine jw_iald (pc' := 71) rfl rfl rfl rfl g_12 g_14.ix g_14.2 ?_
    refine jw_icmp_ne (tgt := 80) (pc' := 74) rfl rfl (fun c_15 => ?_) (fun c_15 => ?_)
    · replace w := w.1 c_15
      refine jw_iinc (pc' := 83) (y := x3 + (1 : Int32)) (ls' := [some (vR 30 r0), some (vR 3 r1), some (vI x2), some (vI (x3 + (1 : Int32)))]) rfl (by decide) rfl rfl rfl ?_
      refine jw_goto (pc' := 54) rfl rfl ?_
      exact hK54 _ _ _ _ _ w
    · replace w := w.2 c_15
      refine jw_ldcS (pc' := 76) rfl rfl rfl rfl ?_
      refine jw_cR (st := []) (sa := [vR 51 (jcs D 184)]) okX1_fault rfl rfl rfl rfl rfl rfl (jstp_static (sa := [vR 51 (jcs D 184)]) (st := []) rfl rfl sX1_fault okX1_fault rfl rfl) w (fun v_18 h_16 _ _ _ w => ?_)
      obtain ⟨g_19, w⟩ := w
      exact jw_athrow rfl rfl g_19 w
def L_X37_check_54 (D : JD) (d : Nat) (Q : JO → JH → Prop) (K7 : Nat → Nat → Int32 → JH → Prop) : Nat → Nat → Nat → Int32 → Int32 → JH → Prop
  | 0 => fun _ _ _ _ _ => False
  | n + 1 => fun r0 r1 x2 x3 h => W_X37_check_54 D d Q K7 (L_X37_check_54 D d Q K7 n) r0 r1 x2 x3 h
theorem l_X37_check_54 {D : JD} {d : Nat} {Q : JO → JH → Prop} {K7 : Nat → Nat → Int32 → JH → Prop} (hK7 : ∀ (r0 : Nat) (r1 : Nat) (x2 : Int32) (h : JH), K7 r0 r1 x2 h → JW D (d + 1) mX37_check 7 [some (vR 30 r0), some (vR 3 r1), some (vI x2), none] [] h Q) : ∀ (n : Nat) (r0 : Nat) (r1 : Nat) (x2 : Int32) (x3 : Int32) (h : JH), L_X37_check_54 D d Q K7 n r0 r1 x2 x3 h → JW D (d + 1) mX37_check 54 [some (vR 30 r0), some (vR 3 r1), some (vI x2), some (vI x3)] [] h Q := by
  intro n
  induction n with
  | zero => intro _ _ _ _ _ w; exact w.elim
  | succ n ih => intro _ _ _ _ h w; exact w_X37_check_54 hK7 ih w
def W_X37_check_7 (D : JD) (d : Nat) (Q : JO → JH → Prop) (K7 : Nat → Nat → Int32 → JH → Prop) (r0 : Nat) (r1 : Nat) (x2 : Int32) (h : JH) : Prop :=
  r0 ≠ 0 ∧ (((jfi h 135 r0) ≤ x2 → r1 ≠ 0 ∧ (cX20_truth D d (jfr h 131 r0) (jfr h 23 r1) h (pV D h (fun h_4 => Q (.inl none) h_4) (jth Q)))) ∧ (¬ (jfi h 135 r0) ≤ x2 → (jfr h 130 r0) ≠ 0 ∧ ((jfr h 132 r0) ≠ 0 ∧ jin x2 (jln h (jfr h 132 r0)) ∧ ((jfr h 138 (jfr h 130 r0)) ≠ 0 ∧ (cX5_column D d (jfr h 138 (jfr h 130 r0)) (jar h (jfr h 132 r0) (ixn x2)) h (pI D h (fun v_13 h_11 => (jfr h 134 r0) ≠ 0 ∧ jin x2 (jln h_11 (jfr h 134 r0)) ∧ ∀ h_16 : JH, h_16 = wai h_11 (jfr h 134 r0) (ixn x2) v_13 → ((jfr h_16 134 r0) ≠ 0 ∧ jin x2 (jln h_16 (jfr h_16 134 r0)) ∧ ((0 ≤ (jai h_16 (jfr h_16 134 r0) (ixn x2)) → ∃ n, L_X37_check_54 D d Q K7 n r0 r1 x2 (0 : Int32) h_16) ∧ (¬ 0 ≤ (jai h_16 (jfr h_16 134 r0) (ixn x2)) → cX1_fault D d (jcs D 183) h_16 (pR D h_16 9 (fun v_23 h_21 => v_23 ≠ 0 ∧ (Q (.inr v_23) h_21)) (jth Q)))))) (jth Q)))))))
theorem w_X37_check_7 {D : JD} {d : Nat} {Q : JO → JH → Prop} {K7 : Nat → Nat → Int32 → JH → Prop} {r0 : Nat} {r1 : Nat} {x2 : Int32} {h : JH} (hK7 : ∀ (r0 : Nat) (r1 : Nat) (x2 : Int32) (h : JH), K7 r0 r1 x2 h → JW D (d + 1) mX37_check 7 [some (vR 30 r0), some (vR 3 r1), some (vI x2), none] [] h Q) (w : W_X37_check_7 D d Q K7 r0 r1 x2 h) : JW D (d + 1) mX37_check 7 [some (vR 30 r0), some (vR 3 r1), some (vI x2), none] [] h Q := by
  unfold W_X37_check_7 at w
  refine jw_iload_n (pc' := 8) rfl rfl ?_
  refine jw_aload_n (pc' := 9) rfl rfl ?_
  obtain ⟨g_1, w⟩ := w
  refine jw_getI (pc' := 12) (F := 135) rfl rfl rfl rfl g_1 ?_
  refine jw_icmp_ge (tgt := 128) (pc' := 15) rfl rfl (fun c_2 => ?_) (fun c_2 => ?_)
  · replace w := w.1 c_2
    refine jw_aload_n (pc' := 129) rfl rfl ?_
    refine jw_getR (pc' := 132) (F := 131) (t' := 55) rfl rfl rfl rfl rfl g_1 ?_
    refine jw_aload_n (pc' := 133) rfl rfl ?_
    obtain ⟨g_3, w⟩ := w
    refine jw_getR (pc' := 136) (F := 23) (t' := 6) rfl rfl rfl rfl rfl g_3 ?_
    refine jw_cV (st := []) (sa := [vR 55 (jfr h 131 r0), vR 6 (jfr h 23 r1)]) okX20_truth rfl rfl rfl rfl rfl rfl (jstp_staticUp (sa := [vR 55 (jfr h 131 r0), vR 6 (jfr h 23 r1)]) (st := []) rfl (lw_g (jtb_mem (c := 11) (i := 206) rfl) rfl) (lw_g (jtb_mem (c := 11) (i := 207) rfl) rfl) rfl sX20_truth okX20_truth rfl rfl) w (fun h_4 _ _ w => ?_)
    exact jw_return rfl rfl w
  · replace w := w.2 c_2
    refine jw_aload_n (pc' := 16) rfl rfl ?_
    refine jw_getR (pc' := 19) (F := 134) (t' := 151) rfl rfl rfl rfl rfl g_1 ?_
    refine jw_iload_n (pc' := 20) rfl rfl ?_
    refine jw_aload_n (pc' := 21) rfl rfl ?_
    refine jw_getR (pc' := 24) (F := 130) (t' := 31) rfl rfl rfl rfl rfl g_1 ?_
    obtain ⟨g_7, w⟩ := w
    refine jw_getR (pc' := 27) (F := 138) (t' := 5) rfl rfl rfl rfl rfl g_7 ?_
    refine jw_aload_n (pc' := 28) rfl rfl ?_
    refine jw_getR (pc' := 31) (F := 132) (t' := 149) rfl rfl rfl rfl rfl g_1 ?_
    refine jw_iload_n (pc' := 32) rfl rfl ?_
    obtain ⟨g_8, w⟩ := w
    obtain ⟨g_9, w⟩ := w
    refine jw_aald (pc' := 33) (t' := 64) rfl rfl rfl rfl g_8 g_9.ix g_9.2 ?_
    obtain ⟨g_10, w⟩ := w
    refine jw_cI (st := [vI x2, vR 151 (jfr h 134 r0)]) (sa := [vR 5 (jfr h 138 (jfr h 130 r0)), vR 64 (jar h (jfr h 132 r0) (ixn x2))]) okX5_column rfl rfl rfl rfl rfl rfl (jstp_virtual (sa := [vR 64 (jar h (jfr h 132 r0) (ixn x2))]) (st := [vI x2, vR 151 (jfr h 134 r0)]) (k := 0) rfl rfl sX5_column okX5_column g_10 (one5.k g_10) rfl rfl) w (fun v_13 h_11 _ _ w => ?_)
    obtain ⟨g_14, w⟩ := w
    obtain ⟨g_15, w⟩ := w
    refine jw_iast' (pc' := 37) rfl rfl rfl rfl rfl g_14 g_15 (fun h_16 e_17 => ?_)
    replace w := w h_16 e_17
    refine jw_aload_n (pc' := 38) rfl rfl ?_
    refine jw_getR (pc' := 41) (F := 134) (t' := 151) rfl rfl rfl rfl rfl g_1 ?_
    refine jw_iload_n (pc' := 42) rfl rfl ?_
    obtain ⟨g_18, w⟩ := w
    obtain ⟨g_19, w⟩ := w
    refine jw_iald (pc' := 43) rfl rfl rfl rfl g_18 g_19.ix g_19.2 ?_
    refine jw_if_ge (tgt := 52) (pc' := 46) rfl rfl (fun c_20 => ?_) (fun c_20 => ?_)
    · replace w := w.1 c_20
      refine jw_iconst (pc' := 53) (x := (0 : Int32)) rfl rfl ?_
      refine jw_istore_n (pc' := 54) (ls' := [some (vR 30 r0), some (vR 3 r1), some (vI x2), some (vI (0 : Int32))]) rfl (by decide) rfl ?_
      obtain ⟨n, w⟩ := w
      exact l_X37_check_54 hK7 n _ _ _ _ _ w
    · replace w := w.2 c_20
      refine jw_ldcS (pc' := 48) rfl rfl rfl rfl ?_
      refine jw_cR (st := []) (sa := [vR 51 (jcs D 183)]) okX1_fault rfl rfl rfl rfl rfl rfl (jstp_static (sa := [vR 51 (jcs D 183)]) (st := []) rfl rfl sX1_fault okX1_fault rfl rfl) w (fun v_23 h_21 _ _ _ w => ?_)
      obtain ⟨g_24, w⟩ := w
      exact jw_athrow rfl rfl g_24 w
def L_X37_check_7 (D : JD) (d : Nat) (Q : JO → JH → Prop) : Nat → Nat → Nat → Int32 → JH → Prop
  | 0 => fun _ _ _ _ => False
  | n + 1 => fun r0 r1 x2 h => W_X37_check_7 D d Q (L_X37_check_7 D d Q n) r0 r1 x2 h
theorem l_X37_check_7 {D : JD} {d : Nat} {Q : JO → JH → Prop} : ∀ (n : Nat) (r0 : Nat) (r1 : Nat) (x2 : Int32) (h : JH), L_X37_check_7 D d Q n r0 r1 x2 h → JW D (d + 1) mX37_check 7 [some (vR 30 r0), some (vR 3 r1), some (vI x2), none] [] h Q := by
  intro n
  induction n with
  | zero => intro _ _ _ _ w; exact w.elim
  | succ n ih => intro _ _ _ h w; exact w_X37_check_7 ih w
def W_X37_check_0 (D : JD) (d : Nat) (Q : JO → JH → Prop) (r0 : Nat) (r1 : Nat) (h : JH) : Prop :=
  r0 ≠ 0 ∧ (cX36_known D d r0 r1 h (pV D h (fun h_2 => ∃ n, L_X37_check_7 D d Q n r0 r1 (0 : Int32) h_2) (jth Q)))
theorem w_X37_check_0 {D : JD} {d : Nat} {Q : JO → JH → Prop} {r0 : Nat} {r1 : Nat} {h : JH} (w : W_X37_check_0 D d Q r0 r1 h) : JW D (d + 1) mX37_check 0 [some (vR 30 r0), some (vR 3 r1), none, none] [] h Q := by
  unfold W_X37_check_0 at w
  refine jw_aload_n (pc' := 1) rfl rfl ?_
  refine jw_aload_n (pc' := 2) rfl rfl ?_
  obtain ⟨g_1, w⟩ := w
  refine jw_cV (st := []) (sa := [vR 30 r0, vR 3 r1]) okX36_known rfl rfl rfl rfl rfl rfl (jstp_up (sa := [vR 3 r1]) (st := []) rfl (lw_g (jtb_mem (c := 11) (i := 197) rfl) rfl) um116 okX36_known g_1 (one30.k g_1) rfl rfl) w (fun h_2 _ _ w => ?_)
  refine jw_iconst (pc' := 6) (x := (0 : Int32)) rfl rfl ?_
  refine jw_istore_n (pc' := 7) (ls' := [some (vR 30 r0), some (vR 3 r1), some (vI (0 : Int32)), none]) rfl (by decide) rfl ?_
  obtain ⟨n, w⟩ := w
  exact l_X37_check_7 n _ _ _ _ w
def T_X37_check (D : JD) (d : Nat) (Q : JO → JH → Prop) (r0 : Nat) (r1 : Nat) (h : JH) : Prop := W_X37_check_0 D d Q r0 r1 h
theorem t_X37_check {D : JD} {d : Nat} {Q : JO → JH → Prop} {r0 : Nat} {r1 : Nat} {h : JH} (w : T_X37_check D d Q r0 r1 h) : cX37_check D (d + 1) r0 r1 h Q := by
  unfold T_X37_check at w
  unfold cX37_check
  exact w_X37_check_0 w
def W_X37_work_221 (D : JD) (d : Nat) (Q : JO → JH → Prop) (K161 : Nat → Nat → Int32 → Nat → Int32 → JH → Prop) (r1 : Nat) (r2 : Nat) (x3 : Int32) (r4 : Nat) (x5 : Int32) (h : JH) : Prop :=
  K161 r1 r2 x3 r4 (x5 + (1 : Int32)) h
theorem w_X37_work_221 {D : JD} {d : Nat} {Q : JO → JH → Prop} {K161 : Nat → Nat → Int32 → Nat → Int32 → JH → Prop} {r1 : Nat} {r2 : Nat} {x3 : Int32} {r4 : Nat} {x5 : Int32} {h : JH} (hK161 : ∀ (r1 : Nat) (r2 : Nat) (x3 : Int32) (r4 : Nat) (x5 : Int32) (h : JH), K161 r1 r2 x3 r4 x5 h → JW D (d + 1) mX37_work 161 [none, some (vR 3 r1), some (vR 5 r2), some (vI x3), some (vR 71 r4), some (vI x5), none, none, none] [] h Q) (w : W_X37_work_221 D d Q K161 r1 r2 x3 r4 x5 h) : JW D (d + 1) mX37_work 221 [none, some (vR 3 r1), some (vR 5 r2), some (vI x3), some (vR 71 r4), some (vI x5), none, none, none] [] h Q := by
  unfold W_X37_work_221 at w
  refine jw_iinc (pc' := 224) (y := x5 + (1 : Int32)) (ls' := [none, some (vR 3 r1), some (vR 5 r2), some (vI x3), some (vR 71 r4), some (vI (x5 + (1 : Int32))), none, none, none]) rfl (by decide) rfl rfl rfl ?_
  refine jw_goto (pc' := 161) rfl rfl ?_
  exact hK161 _ _ _ _ _ _ w
def W_X37_work_184 (D : JD) (d : Nat) (Q : JO → JH → Prop) (K161 : Nat → Nat → Int32 → Nat → Int32 → JH → Prop) (K184 : Nat → Nat → Int32 → Nat → Int32 → Int32 → JH → Prop) (r1 : Nat) (r2 : Nat) (x3 : Int32) (r4 : Nat) (x5 : Int32) (x6 : Int32) (h : JH) : Prop :=
  r2 ≠ 0 ∧ (((jfi h 44 r2) ≤ x6 → W_X37_work_221 D d Q K161 r1 r2 x3 r4 x5 h) ∧ (¬ (jfi h 44 r2) ≤ x6 → cX5_row D d r2 x5 h (pR D h 76 (fun v_5 h_3 => v_5 ≠ 0 ∧ jin x6 (jln h_3 v_5) ∧ (r1 ≠ 0 ∧ (cX3_scratch D d r1 x5 h_3 (pR D h_3 76 (fun v_11 h_9 => v_11 ≠ 0 ∧ jin x6 (jln h_9 v_11) ∧ ((jar h_3 v_5 (ixn x6)) ≠ 0 ∧ (cX14_copy D d (jar h_3 v_5 (ixn x6)) (jar h_9 v_11 (ixn x6)) h_9 (pR D h_9 8 (fun v_17 h_15 => K184 r1 r2 x3 r4 x5 (x6 + (1 : Int32)) h_15) (jth Q))))) (jth Q))))) (jth Q))))
theorem w_X37_work_184 {D : JD} {d : Nat} {Q : JO → JH → Prop} {K161 : Nat → Nat → Int32 → Nat → Int32 → JH → Prop} {K184 : Nat → Nat → Int32 → Nat → Int32 → Int32 → JH → Prop} {r1 : Nat} {r2 : Nat} {x3 : Int32} {r4 : Nat} {x5 : Int32} {x6 : Int32} {h : JH} (hK161 : ∀ (r1 : Nat) (r2 : Nat) (x3 : Int32) (r4 : Nat) (x5 : Int32) (h : JH), K161 r1 r2 x3 r4 x5 h → JW D (d + 1) mX37_work 161 [none, some (vR 3 r1), some (vR 5 r2), some (vI x3), some (vR 71 r4), some (vI x5), none, none, none] [] h Q) (hK184 : ∀ (r1 : Nat) (r2 : Nat) (x3 : Int32) (r4 : Nat) (x5 : Int32) (x6 : Int32) (h : JH), K184 r1 r2 x3 r4 x5 x6 h → JW D (d + 1) mX37_work 184 [none, some (vR 3 r1), some (vR 5 r2), some (vI x3), some (vR 71 r4), some (vI x5), some (vI x6), none, none] [] h Q) (w : W_X37_work_184 D d Q K161 K184 r1 r2 x3 r4 x5 x6 h) : JW D (d + 1) mX37_work 184 [none, some (vR 3 r1), some (vR 5 r2), some (vI x3), some (vR 71 r4), some (vI x5), some (vI x6), none, none] [] h Q := by
  unfold W_X37_work_184 at w
  refine jw_iload (pc' := 186) rfl rfl ?_
  refine jw_aload_n (pc' := 187) rfl rfl ?_
  obtain ⟨g_1, w⟩ := w
  refine jw_getI (pc' := 190) (F := 44) rfl rfl rfl rfl g_1 ?_
  refine jw_icmp_ge (tgt := 221) (pc' := 193) rfl rfl (fun c_2 => ?_) (fun c_2 => ?_)
  · replace w := w.1 c_2
    refine jw_gen (ls' := [none, some (vR 3 r1), some (vR 5 r2), some (vI x3), some (vR 71 r4), some (vI x5), none, none, none]) (st' := []) (And.intro (Or.inl rfl) (And.intro (Or.inl rfl) (And.intro (Or.inl rfl) (And.intro (Or.inl rfl) (And.intro (Or.inl rfl) (trivial)))))) (trivial) ?_
    exact w_X37_work_221 hK161 w
  · replace w := w.2 c_2
    refine jw_aload_n (pc' := 194) rfl rfl ?_
    refine jw_iload (pc' := 196) rfl rfl ?_
    refine jw_cR (st := []) (sa := [vR 5 r2, vI x5]) okX5_row rfl rfl rfl rfl rfl rfl (jstp_virtual (sa := [vI x5]) (st := []) (k := 0) rfl rfl sX5_row okX5_row g_1 (one5.k g_1) rfl rfl) w (fun v_5 h_3 _ _ _ w => ?_)
    refine jw_iload (pc' := 201) rfl rfl ?_
    obtain ⟨g_6, w⟩ := w
    obtain ⟨g_7, w⟩ := w
    refine jw_aald (pc' := 202) (t' := 8) rfl rfl rfl rfl g_6 g_7.ix g_7.2 ?_
    refine jw_aload_n (pc' := 203) rfl rfl ?_
    refine jw_iload (pc' := 205) rfl rfl ?_
    obtain ⟨g_8, w⟩ := w
    refine jw_cR (st := [vR 8 (jar h_3 v_5 (ixn x6))]) (sa := [vR 3 r1, vI x5]) okX3_scratch rfl rfl rfl rfl rfl rfl (jstp_virtual (sa := [vI x5]) (st := [vR 8 (jar h_3 v_5 (ixn x6))]) (k := 0) rfl rfl sX3_scratch okX3_scratch g_8 (one3.k g_8) rfl rfl) w (fun v_11 h_9 _ _ _ w => ?_)
    refine jw_iload (pc' := 210) rfl rfl ?_
    obtain ⟨g_12, w⟩ := w
    obtain ⟨g_13, w⟩ := w
    refine jw_aald (pc' := 211) (t' := 8) rfl rfl rfl rfl g_12 g_13.ix g_13.2 ?_
    obtain ⟨g_14, w⟩ := w
    refine jw_cR (st := []) (sa := [vR 8 (jar h_3 v_5 (ixn x6)), vR 8 (jar h_9 v_11 (ixn x6))]) okX14_copy rfl rfl rfl rfl rfl rfl (jstp_virtual (sa := [vR 8 (jar h_9 v_11 (ixn x6))]) (st := []) (k := 0) rfl rfl sX14_copy okX14_copy g_14 (one8.k g_14) rfl rfl) w (fun v_17 h_15 _ _ _ w => ?_)
    refine jw_pop (pc' := 215) rfl rfl ?_
    refine jw_iinc (pc' := 218) (y := x6 + (1 : Int32)) (ls' := [none, some (vR 3 r1), some (vR 5 r2), some (vI x3), some (vR 71 r4), some (vI x5), some (vI (x6 + (1 : Int32))), none, none]) rfl (by decide) rfl rfl rfl ?_
    refine jw_goto (pc' := 184) rfl rfl ?_
    exact hK184 _ _ _ _ _ _ _ w
def L_X37_work_184 (D : JD) (d : Nat) (Q : JO → JH → Prop) (K161 : Nat → Nat → Int32 → Nat → Int32 → JH → Prop) : Nat → Nat → Nat → Int32 → Nat → Int32 → Int32 → JH → Prop
  | 0 => fun _ _ _ _ _ _ _ => False
  | n + 1 => fun r1 r2 x3 r4 x5 x6 h => W_X37_work_184 D d Q K161 (L_X37_work_184 D d Q K161 n) r1 r2 x3 r4 x5 x6 h
theorem l_X37_work_184 {D : JD} {d : Nat} {Q : JO → JH → Prop} {K161 : Nat → Nat → Int32 → Nat → Int32 → JH → Prop} (hK161 : ∀ (r1 : Nat) (r2 : Nat) (x3 : Int32) (r4 : Nat) (x5 : Int32) (h : JH), K161 r1 r2 x3 r4 x5 h → JW D (d + 1) mX37_work 161 [none, some (vR 3 r1), some (vR 5 r2), some (vI x3), some (vR 71 r4), some (vI x5), none, none, none] [] h Q) : ∀ (n : Nat) (r1 : Nat) (r2 : Nat) (x3 : Int32) (r4 : Nat) (x5 : Int32) (x6 : Int32) (h : JH), L_X37_work_184 D d Q K161 n r1 r2 x3 r4 x5 x6 h → JW D (d + 1) mX37_work 184 [none, some (vR 3 r1), some (vR 5 r2), some (vI x3), some (vR 71 r4), some (vI x5), some (vI x6), none, none] [] h Q := by
  intro n
  induction n with
  | zero => intro _ _ _ _ _ _ _ w; exact w.elim
  | succ n ih => intro _ _ _ _ _ _ h w; exact w_X37_work_184 hK161 ih w
def W_X37_work_161 (D : JD) (d : Nat) (Q : JO → JH → Prop) (K161 : Nat → Nat → Int32 → Nat → Int32 → JH → Prop) (r1 : Nat) (r2 : Nat) (x3 : Int32) (r4 : Nat) (x5 : Int32) (h : JH) : Prop :=
  r2 ≠ 0 ∧ (((jfi h 46 r2) ≤ x5 → cX5_singles D d r2 h (pV D h (fun h_3 => ∀ (r_6 : Nat) (h_7 : JH), r_6 = jsz h_3 + 1 → h_7 = nwo h_3 11 4 → (cJ13_init D d r_6 h_7 (pV D h_7 (fun h_10 => cJ13_append_3 D d r_6 (jcs D 203) h_10 (pR D h_10 11 (fun v_15 h_13 => v_15 ≠ 0 ∧ (cJ13_append_2 D d v_15 x3 h_13 (pR D h_13 11 (fun v_19 h_17 => v_19 ≠ 0 ∧ (cJ13_toString D d v_19 h_17 (pR D h_17 64 (fun v_23 h_21 => Q (.inl (some (vR 64 v_23))) h_21) (jth Q)))) (jth Q)))) (jth Q))) (jth Q)))) (jth Q))) ∧ (¬ (jfi h 46 r2) ≤ x5 → r4 ≠ 0 ∧ jin x5 (jln h r4) ∧ ((¬ (jai h r4 (ixn x5)) = 0 → ∃ n, L_X37_work_184 D d Q K161 n r1 r2 x3 r4 x5 (0 : Int32) h) ∧ ((jai h r4 (ixn x5)) = 0 → W_X37_work_221 D d Q K161 r1 r2 x3 r4 x5 h))))
theorem w_X37_work_161 {D : JD} {d : Nat} {Q : JO → JH → Prop} {K161 : Nat → Nat → Int32 → Nat → Int32 → JH → Prop} {r1 : Nat} {r2 : Nat} {x3 : Int32} {r4 : Nat} {x5 : Int32} {h : JH} (hK161 : ∀ (r1 : Nat) (r2 : Nat) (x3 : Int32) (r4 : Nat) (x5 : Int32) (h : JH), K161 r1 r2 x3 r4 x5 h → JW D (d + 1) mX37_work 161 [none, some (vR 3 r1), some (vR 5 r2), some (vI x3), some (vR 71 r4), some (vI x5), none, none, none] [] h Q) (w : W_X37_work_161 D d Q K161 r1 r2 x3 r4 x5 h) : JW D (d + 1) mX37_work 161 [none, some (vR 3 r1), some (vR 5 r2), some (vI x3), some (vR 71 r4), some (vI x5), none, none, none] [] h Q := by
  unfold W_X37_work_161 at w
  refine jw_iload (pc' := 163) rfl rfl ?_
  refine jw_aload_n (pc' := 164) rfl rfl ?_
  obtain ⟨g_1, w⟩ := w
  refine jw_getI (pc' := 167) (F := 46) rfl rfl rfl rfl g_1 ?_
  refine jw_icmp_ge (tgt := 227) (pc' := 170) rfl rfl (fun c_2 => ?_) (fun c_2 => ?_)
  · replace w := w.1 c_2
    refine jw_aload_n (pc' := 228) rfl rfl ?_
    refine jw_cV (st := []) (sa := [vR 5 r2]) okX5_singles rfl rfl rfl rfl rfl rfl (jstp_virtual (sa := []) (st := []) (k := 0) rfl rfl sX5_singles okX5_singles g_1 (one5.k g_1) rfl rfl) w (fun h_3 _ _ w => ?_)
    refine jw_new' (pc' := 234) (k := 11) (n := 4) rfl rfl rfl rfl rfl rfl rfl (fun r_6 h_7 e_8 e_9 => ?_)
    replace w := w r_6 h_7 e_8 e_9
    refine jw_dup (pc' := 235) rfl rfl ?_
    refine jw_cV (st := [vR 11 r_6]) (sa := [vR 11 r_6]) okJ13_init rfl rfl rfl rfl rfl rfl (jstp_init (sa := []) (st := [vR 11 r_6]) rfl rfl sJ13_init okJ13_init (lw_g (jtb_mem (c := 3) (i := 134) rfl) rfl) (jnz e_8) rfl rfl) w (fun h_10 _ _ w => ?_)
    refine jw_ldcS (pc' := 240) rfl rfl rfl rfl ?_
    refine jw_cR (st := []) (sa := [vR 11 r_6, vR 51 (jcs D 203)]) okJ13_append_3 rfl rfl rfl rfl rfl rfl (jstp_virtual (sa := [vR 51 (jcs D 203)]) (st := []) (k := 0) rfl rfl sJ13_append_3 okJ13_append_3 (jnz e_8) (one11.k (jnz e_8)) rfl rfl) w (fun v_15 h_13 _ _ _ w => ?_)
    refine jw_iload_n (pc' := 244) rfl rfl ?_
    obtain ⟨g_16, w⟩ := w
    refine jw_cR (st := []) (sa := [vR 11 v_15, vI x3]) okJ13_append_2 rfl rfl rfl rfl rfl rfl (jstp_virtual (sa := [vI x3]) (st := []) (k := 0) rfl rfl sJ13_append_2 okJ13_append_2 g_16 (one11.k g_16) rfl rfl) w (fun v_19 h_17 _ _ _ w => ?_)
    obtain ⟨g_20, w⟩ := w
    refine jw_cR (st := []) (sa := [vR 11 v_19]) okJ13_toString rfl rfl rfl rfl rfl rfl (jstp_virtual (sa := []) (st := []) (k := 0) rfl rfl sJ13_toString okJ13_toString g_20 (one11.k g_20) rfl rfl) w (fun v_23 h_21 _ _ _ w => ?_)
    exact jw_areturn rfl rfl rfl rfl rfl w
  · replace w := w.2 c_2
    refine jw_aload (pc' := 172) rfl rfl ?_
    refine jw_iload (pc' := 174) rfl rfl ?_
    obtain ⟨g_24, w⟩ := w
    obtain ⟨g_25, w⟩ := w
    refine jw_zald (pc' := 175) rfl rfl rfl rfl g_24 g_25.ix g_25.2 ?_
    refine jw_if_ne (tgt := 181) (pc' := 178) rfl rfl (fun c_26 => ?_) (fun c_26 => ?_)
    · replace w := w.1 c_26
      refine jw_iconst (pc' := 182) (x := (0 : Int32)) rfl rfl ?_
      refine jw_istore (pc' := 184) (ls' := [none, some (vR 3 r1), some (vR 5 r2), some (vI x3), some (vR 71 r4), some (vI x5), some (vI (0 : Int32)), none, none]) rfl (by decide) rfl ?_
      obtain ⟨n, w⟩ := w
      exact l_X37_work_184 hK161 n _ _ _ _ _ _ _ w
    · replace w := w.2 c_26
      refine jw_goto (pc' := 221) rfl rfl ?_
      exact w_X37_work_221 hK161 w
def L_X37_work_161 (D : JD) (d : Nat) (Q : JO → JH → Prop) : Nat → Nat → Nat → Int32 → Nat → Int32 → JH → Prop
  | 0 => fun _ _ _ _ _ _ => False
  | n + 1 => fun r1 r2 x3 r4 x5 h => W_X37_work_161 D d Q (L_X37_work_161 D d Q n) r1 r2 x3 r4 x5 h
theorem l_X37_work_161 {D : JD} {d : Nat} {Q : JO → JH → Prop} : ∀ (n : Nat) (r1 : Nat) (r2 : Nat) (x3 : Int32) (r4 : Nat) (x5 : Int32) (h : JH), L_X37_work_161 D d Q n r1 r2 x3 r4 x5 h → JW D (d + 1) mX37_work 161 [none, some (vR 3 r1), some (vR 5 r2), some (vI x3), some (vR 71 r4), some (vI x5), none, none, none] [] h Q := by
  intro n
  induction n with
  | zero => intro _ _ _ _ _ _ w; exact w.elim
  | succ n ih => intro _ _ _ _ _ h w; exact w_X37_work_161 ih w
def W_X37_work_152 (D : JD) (d : Nat) (Q : JO → JH → Prop) (K21 : Nat → Nat → Nat → Int32 → Nat → Int32 → JH → Prop) (r0 : Nat) (r1 : Nat) (r2 : Nat) (x3 : Int32) (r4 : Nat) (x5 : Int32) (h : JH) : Prop :=
  K21 r0 r1 r2 x3 r4 (x5 + (1 : Int32)) h
theorem w_X37_work_152 {D : JD} {d : Nat} {Q : JO → JH → Prop} {K21 : Nat → Nat → Nat → Int32 → Nat → Int32 → JH → Prop} {r0 : Nat} {r1 : Nat} {r2 : Nat} {x3 : Int32} {r4 : Nat} {x5 : Int32} {h : JH} (hK21 : ∀ (r0 : Nat) (r1 : Nat) (r2 : Nat) (x3 : Int32) (r4 : Nat) (x5 : Int32) (h : JH), K21 r0 r1 r2 x3 r4 x5 h → JW D (d + 1) mX37_work 21 [some (vR 30 r0), some (vR 3 r1), some (vR 5 r2), some (vI x3), some (vR 71 r4), some (vI x5), none, none, none] [] h Q) (w : W_X37_work_152 D d Q K21 r0 r1 r2 x3 r4 x5 h) : JW D (d + 1) mX37_work 152 [some (vR 30 r0), some (vR 3 r1), some (vR 5 r2), some (vI x3), some (vR 71 r4), some (vI x5), none, none, none] [] h Q := by
  unfold W_X37_work_152 at w
  refine jw_iinc (pc' := 155) (y := x5 + (1 : Int32)) (ls' := [some (vR 30 r0), some (vR 3 r1), some (vR 5 r2), some (vI x3), some (vR 71 r4), some (vI (x5 + (1 : Int32))), none, none, none]) rfl (by decide) rfl rfl rfl ?_
  refine jw_goto (pc' := 21) rfl rfl ?_
  exact hK21 _ _ _ _ _ _ _ w
def W_X37_work_136 (D : JD) (d : Nat) (Q : JO → JH → Prop) (K21 : Nat → Nat → Nat → Int32 → Nat → Int32 → JH → Prop) (K103 : Nat → Nat → Nat → Int32 → Nat → Int32 → Nat → Int32 → JH → Prop) (r0 : Nat) (r1 : Nat) (r2 : Nat) (x3 : Int32) (r4 : Nat) (x5 : Int32) (r6 : Nat) (x8 : Int32) (q0 : Nat) (q1 : Nat) (h : JH) : Prop :=
  q0 ≠ 0 ∧ (cX14_copy D d q0 q1 h (pR D h 8 (fun v_4 h_2 => K103 r0 r1 r2 x3 r4 x5 r6 (x8 + (1 : Int32)) h_2) (jth Q)))
theorem w_X37_work_136 {D : JD} {d : Nat} {Q : JO → JH → Prop} {K21 : Nat → Nat → Nat → Int32 → Nat → Int32 → JH → Prop} {K103 : Nat → Nat → Nat → Int32 → Nat → Int32 → Nat → Int32 → JH → Prop} {r0 : Nat} {r1 : Nat} {r2 : Nat} {x3 : Int32} {r4 : Nat} {x5 : Int32} {r6 : Nat} {x8 : Int32} {q0 : Nat} {q1 : Nat} {h : JH} (hK21 : ∀ (r0 : Nat) (r1 : Nat) (r2 : Nat) (x3 : Int32) (r4 : Nat) (x5 : Int32) (h : JH), K21 r0 r1 r2 x3 r4 x5 h → JW D (d + 1) mX37_work 21 [some (vR 30 r0), some (vR 3 r1), some (vR 5 r2), some (vI x3), some (vR 71 r4), some (vI x5), none, none, none] [] h Q) (hK103 : ∀ (r0 : Nat) (r1 : Nat) (r2 : Nat) (x3 : Int32) (r4 : Nat) (x5 : Int32) (r6 : Nat) (x8 : Int32) (h : JH), K103 r0 r1 r2 x3 r4 x5 r6 x8 h → JW D (d + 1) mX37_work 103 [some (vR 30 r0), some (vR 3 r1), some (vR 5 r2), some (vI x3), some (vR 71 r4), some (vI x5), some (vR 76 r6), none, some (vI x8)] [] h Q) (w : W_X37_work_136 D d Q K21 K103 r0 r1 r2 x3 r4 x5 r6 x8 q0 q1 h) : JW D (d + 1) mX37_work 136 [some (vR 30 r0), some (vR 3 r1), some (vR 5 r2), some (vI x3), some (vR 71 r4), some (vI x5), some (vR 76 r6), none, some (vI x8)] [vR 8 q1, vR 8 q0] h Q := by
  unfold W_X37_work_136 at w
  obtain ⟨g_1, w⟩ := w
  refine jw_cR (st := []) (sa := [vR 8 q0, vR 8 q1]) okX14_copy rfl rfl rfl rfl rfl rfl (jstp_virtual (sa := [vR 8 q1]) (st := []) (k := 0) rfl rfl sX14_copy okX14_copy g_1 (one8.k g_1) rfl rfl) w (fun v_4 h_2 _ _ _ w => ?_)
  refine jw_pop (pc' := 140) rfl rfl ?_
  refine jw_iinc (pc' := 143) (y := x8 + (1 : Int32)) (ls' := [some (vR 30 r0), some (vR 3 r1), some (vR 5 r2), some (vI x3), some (vR 71 r4), some (vI x5), some (vR 76 r6), none, some (vI (x8 + (1 : Int32)))]) rfl (by decide) rfl rfl rfl ?_
  refine jw_goto (pc' := 103) rfl rfl ?_
  exact hK103 _ _ _ _ _ _ _ _ _ w
def W_X37_work_103 (D : JD) (d : Nat) (Q : JO → JH → Prop) (K21 : Nat → Nat → Nat → Int32 → Nat → Int32 → JH → Prop) (K103 : Nat → Nat → Nat → Int32 → Nat → Int32 → Nat → Int32 → JH → Prop) (r0 : Nat) (r1 : Nat) (r2 : Nat) (x3 : Int32) (r4 : Nat) (x5 : Int32) (r6 : Nat) (x8 : Int32) (h : JH) : Prop :=
  r0 ≠ 0 ∧ (((jfi h 135 r0) ≤ x8 → r2 ≠ 0 ∧ (cX5_missing D d r2 r6 h (pV D h (fun h_4 => W_X37_work_152 D d Q K21 r0 r1 r2 x3 r4 x5 h_4) (jth Q)))) ∧ (¬ (jfi h 135 r0) ≤ x8 → (jfr h 134 r0) ≠ 0 ∧ jin x8 (jln h (jfr h 134 r0)) ∧ (r6 ≠ 0 ∧ jin (jai h (jfr h 134 r0) (ixn x8)) (jln h r6) ∧ ((jfr h 133 r0) ≠ 0 ∧ jin x8 (jln h (jfr h 133 r0)) ∧ (r1 ≠ 0 ∧ ((jar h (jfr h 133 r0) (ixn x8)) ≠ 0 ∧ (v55_at D d (jar h (jfr h 133 r0) (ixn x8)) (jfr h 23 r1) h (pR D h 8 (fun v_17 h_15 => W_X37_work_136 D d Q K21 K103 r0 r1 r2 x3 r4 x5 r6 x8 (jar h r6 (ixn (jai h (jfr h 134 r0) (ixn x8)))) v_17 h_15) (jth Q)))))))))
theorem w_X37_work_103 {D : JD} {d : Nat} {Q : JO → JH → Prop} {K21 : Nat → Nat → Nat → Int32 → Nat → Int32 → JH → Prop} {K103 : Nat → Nat → Nat → Int32 → Nat → Int32 → Nat → Int32 → JH → Prop} {r0 : Nat} {r1 : Nat} {r2 : Nat} {x3 : Int32} {r4 : Nat} {x5 : Int32} {r6 : Nat} {x8 : Int32} {h : JH} (hK21 : ∀ (r0 : Nat) (r1 : Nat) (r2 : Nat) (x3 : Int32) (r4 : Nat) (x5 : Int32) (h : JH), K21 r0 r1 r2 x3 r4 x5 h → JW D (d + 1) mX37_work 21 [some (vR 30 r0), some (vR 3 r1), some (vR 5 r2), some (vI x3), some (vR 71 r4), some (vI x5), none, none, none] [] h Q) (hK103 : ∀ (r0 : Nat) (r1 : Nat) (r2 : Nat) (x3 : Int32) (r4 : Nat) (x5 : Int32) (r6 : Nat) (x8 : Int32) (h : JH), K103 r0 r1 r2 x3 r4 x5 r6 x8 h → JW D (d + 1) mX37_work 103 [some (vR 30 r0), some (vR 3 r1), some (vR 5 r2), some (vI x3), some (vR 71 r4), some (vI x5), some (vR 76 r6), none, some (vI x8)] [] h Q) (w : W_X37_work_103 D d Q K21 K103 r0 r1 r2 x3 r4 x5 r6 x8 h) : JW D (d + 1) mX37_work 103 [some (vR 30 r0), some (vR 3 r1), some (vR 5 r2), some (vI x3), some (vR 71 r4), some (vI x5), some (vR 76 r6), none, some (vI x8)] [] h Q := by
  unfold W_X37_work_103 at w
  refine jw_iload (pc' := 105) rfl rfl ?_
  refine jw_aload_n (pc' := 106) rfl rfl ?_
  obtain ⟨g_1, w⟩ := w
  refine jw_getI (pc' := 109) (F := 135) rfl rfl rfl rfl g_1 ?_
  refine jw_icmp_ge (tgt := 146) (pc' := 112) rfl rfl (fun c_2 => ?_) (fun c_2 => ?_)
  · replace w := w.1 c_2
    refine jw_aload_n (pc' := 147) rfl rfl ?_
    refine jw_aload (pc' := 149) rfl rfl ?_
    obtain ⟨g_3, w⟩ := w
    refine jw_cV (st := []) (sa := [vR 5 r2, vR 76 r6]) okX5_missing rfl rfl rfl rfl rfl rfl (jstp_virtual (sa := [vR 76 r6]) (st := []) (k := 0) rfl rfl sX5_missing okX5_missing g_3 (one5.k g_3) rfl rfl) w (fun h_4 _ _ w => ?_)
    refine jw_gen (ls' := [some (vR 30 r0), some (vR 3 r1), some (vR 5 r2), some (vI x3), some (vR 71 r4), some (vI x5), none, none, none]) (st' := []) (And.intro (Or.inl rfl) (And.intro (Or.inl rfl) (And.intro (Or.inl rfl) (And.intro (Or.inl rfl) (And.intro (Or.inl rfl) (And.intro (Or.inl rfl) (trivial))))))) (trivial) ?_
    exact w_X37_work_152 hK21 w
  · replace w := w.2 c_2
    refine jw_aload (pc' := 114) rfl rfl ?_
    refine jw_aload_n (pc' := 115) rfl rfl ?_
    refine jw_getR (pc' := 118) (F := 134) (t' := 151) rfl rfl rfl rfl rfl g_1 ?_
    refine jw_iload (pc' := 120) rfl rfl ?_
    obtain ⟨g_7, w⟩ := w
    obtain ⟨g_8, w⟩ := w
    refine jw_iald (pc' := 121) rfl rfl rfl rfl g_7 g_8.ix g_8.2 ?_
    obtain ⟨g_9, w⟩ := w
    obtain ⟨g_10, w⟩ := w
    refine jw_aald (pc' := 122) (t' := 8) rfl rfl rfl rfl g_9 g_10.ix g_10.2 ?_
    refine jw_aload_n (pc' := 123) rfl rfl ?_
    refine jw_getR (pc' := 126) (F := 133) (t' := 150) rfl rfl rfl rfl rfl g_1 ?_
    refine jw_iload (pc' := 128) rfl rfl ?_
    obtain ⟨g_11, w⟩ := w
    obtain ⟨g_12, w⟩ := w
    refine jw_aald (pc' := 129) (t' := 55) rfl rfl rfl rfl g_11 g_12.ix g_12.2 ?_
    refine jw_aload_n (pc' := 130) rfl rfl ?_
    obtain ⟨g_13, w⟩ := w
    refine jw_getR (pc' := 133) (F := 23) (t' := 6) rfl rfl rfl rfl rfl g_13 ?_
    obtain ⟨g_14, w⟩ := w
    refine JW.inv (fun hI => JW.oks (fun ho => ?_))
    have hkd := und55.k hI (ho (vR 55 (jar h (jfr h 133 r0) (ixn x8))) (by simp)) g_14
    simp only [List.mem_cons, List.not_mem_nil, or_false] at hkd
    clear ho hI
    rcases hkd with e_18 | e_18 | e_18 | e_18 | e_18 | e_18 | e_18 | e_18 | e_18 | e_18
    · refine jw_gen (ls' := _) (st' := [vR 6 (jfr h 23 r1), vR 20 (jar h (jfr h 133 r0) (ixn x8)), vR 8 (jar h r6 (ixn (jai h (jfr h 134 r0) (ixn x8))))]) (jgl_rf _ _) (And.intro (Or.inl rfl) (And.intro (Or.inr ⟨_, _, _, rfl, rfl, Or.inr (Or.inr (by rw [e_18]; rfl))⟩) (jgs_rf _ _))) ?_
      refine jw_cR (st := [vR 8 (jar h r6 (ixn (jai h (jfr h 134 r0) (ixn x8))))]) (sa := [vR 20 (jar h (jfr h 133 r0) (ixn x8)), vR 6 (jfr h 23 r1)]) okX25_at rfl rfl rfl rfl rfl rfl (jstp_up (sa := [vR 6 (jfr h 23 r1)]) (st := [vR 8 (jar h r6 (ixn (jai h (jfr h 134 r0) (ixn x8))))]) rfl (lw_g (jtb_mem (c := 13) (i := 99) rfl) rfl) um28 okX25_at g_14 (fun _ _ => by rw [e_18]; exact ⟨rfl, rfl⟩) rfl rfl) (w.1 e_18) (fun v_17 h_15 _ _ _ w => ?_)
      exact w_X37_work_136 hK21 hK103 w
    · refine jw_gen (ls' := _) (st' := [vR 6 (jfr h 23 r1), vR 21 (jar h (jfr h 133 r0) (ixn x8)), vR 8 (jar h r6 (ixn (jai h (jfr h 134 r0) (ixn x8))))]) (jgl_rf _ _) (And.intro (Or.inl rfl) (And.intro (Or.inr ⟨_, _, _, rfl, rfl, Or.inr (Or.inr (by rw [e_18]; rfl))⟩) (jgs_rf _ _))) ?_
      refine jw_cR (st := [vR 8 (jar h r6 (ixn (jai h (jfr h 134 r0) (ixn x8))))]) (sa := [vR 21 (jar h (jfr h 133 r0) (ixn x8)), vR 6 (jfr h 23 r1)]) okX27_at rfl rfl rfl rfl rfl rfl (jstp_up (sa := [vR 6 (jfr h 23 r1)]) (st := [vR 8 (jar h r6 (ixn (jai h (jfr h 134 r0) (ixn x8))))]) rfl (lw_g (jtb_mem (c := 13) (i := 99) rfl) rfl) um29 okX27_at g_14 (fun _ _ => by rw [e_18]; exact ⟨rfl, rfl⟩) rfl rfl) (w.2.1 e_18) (fun v_17 h_15 _ _ _ w => ?_)
      exact w_X37_work_136 hK21 hK103 w
    · refine jw_gen (ls' := _) (st' := [vR 6 (jfr h 23 r1), vR 22 (jar h (jfr h 133 r0) (ixn x8)), vR 8 (jar h r6 (ixn (jai h (jfr h 134 r0) (ixn x8))))]) (jgl_rf _ _) (And.intro (Or.inl rfl) (And.intro (Or.inr ⟨_, _, _, rfl, rfl, Or.inr (Or.inr (by rw [e_18]; rfl))⟩) (jgs_rf _ _))) ?_
      refine jw_cR (st := [vR 8 (jar h r6 (ixn (jai h (jfr h 134 r0) (ixn x8))))]) (sa := [vR 22 (jar h (jfr h 133 r0) (ixn x8)), vR 6 (jfr h 23 r1)]) okX28_at rfl rfl rfl rfl rfl rfl (jstp_up (sa := [vR 6 (jfr h 23 r1)]) (st := [vR 8 (jar h r6 (ixn (jai h (jfr h 134 r0) (ixn x8))))]) rfl (lw_g (jtb_mem (c := 13) (i := 99) rfl) rfl) um30 okX28_at g_14 (fun _ _ => by rw [e_18]; exact ⟨rfl, rfl⟩) rfl rfl) (w.2.2.1 e_18) (fun v_17 h_15 _ _ _ w => ?_)
      exact w_X37_work_136 hK21 hK103 w
    · refine jw_gen (ls' := _) (st' := [vR 6 (jfr h 23 r1), vR 23 (jar h (jfr h 133 r0) (ixn x8)), vR 8 (jar h r6 (ixn (jai h (jfr h 134 r0) (ixn x8))))]) (jgl_rf _ _) (And.intro (Or.inl rfl) (And.intro (Or.inr ⟨_, _, _, rfl, rfl, Or.inr (Or.inr (by rw [e_18]; rfl))⟩) (jgs_rf _ _))) ?_
      refine jw_cR (st := [vR 8 (jar h r6 (ixn (jai h (jfr h 134 r0) (ixn x8))))]) (sa := [vR 23 (jar h (jfr h 133 r0) (ixn x8)), vR 6 (jfr h 23 r1)]) okX29_at rfl rfl rfl rfl rfl rfl (jstp_up (sa := [vR 6 (jfr h 23 r1)]) (st := [vR 8 (jar h r6 (ixn (jai h (jfr h 134 r0) (ixn x8))))]) rfl (lw_g (jtb_mem (c := 13) (i := 99) rfl) rfl) um31 okX29_at g_14 (fun _ _ => by rw [e_18]; exact ⟨rfl, rfl⟩) rfl rfl) (w.2.2.2.1 e_18) (fun v_17 h_15 _ _ _ w => ?_)
      exact w_X37_work_136 hK21 hK103 w
    · refine jw_gen (ls' := _) (st' := [vR 6 (jfr h 23 r1), vR 24 (jar h (jfr h 133 r0) (ixn x8)), vR 8 (jar h r6 (ixn (jai h (jfr h 134 r0) (ixn x8))))]) (jgl_rf _ _) (And.intro (Or.inl rfl) (And.intro (Or.inr ⟨_, _, _, rfl, rfl, Or.inr (Or.inr (by rw [e_18]; rfl))⟩) (jgs_rf _ _))) ?_
      refine jw_cR (st := [vR 8 (jar h r6 (ixn (jai h (jfr h 134 r0) (ixn x8))))]) (sa := [vR 24 (jar h (jfr h 133 r0) (ixn x8)), vR 6 (jfr h 23 r1)]) okX30_at rfl rfl rfl rfl rfl rfl (jstp_up (sa := [vR 6 (jfr h 23 r1)]) (st := [vR 8 (jar h r6 (ixn (jai h (jfr h 134 r0) (ixn x8))))]) rfl (lw_g (jtb_mem (c := 13) (i := 99) rfl) rfl) um32 okX30_at g_14 (fun _ _ => by rw [e_18]; exact ⟨rfl, rfl⟩) rfl rfl) (w.2.2.2.2.1 e_18) (fun v_17 h_15 _ _ _ w => ?_)
      exact w_X37_work_136 hK21 hK103 w
    · refine jw_gen (ls' := _) (st' := [vR 6 (jfr h 23 r1), vR 25 (jar h (jfr h 133 r0) (ixn x8)), vR 8 (jar h r6 (ixn (jai h (jfr h 134 r0) (ixn x8))))]) (jgl_rf _ _) (And.intro (Or.inl rfl) (And.intro (Or.inr ⟨_, _, _, rfl, rfl, Or.inr (Or.inr (by rw [e_18]; rfl))⟩) (jgs_rf _ _))) ?_
      refine jw_cR (st := [vR 8 (jar h r6 (ixn (jai h (jfr h 134 r0) (ixn x8))))]) (sa := [vR 25 (jar h (jfr h 133 r0) (ixn x8)), vR 6 (jfr h 23 r1)]) okX31_at rfl rfl rfl rfl rfl rfl (jstp_up (sa := [vR 6 (jfr h 23 r1)]) (st := [vR 8 (jar h r6 (ixn (jai h (jfr h 134 r0) (ixn x8))))]) rfl (lw_g (jtb_mem (c := 13) (i := 99) rfl) rfl) um33 okX31_at g_14 (fun _ _ => by rw [e_18]; exact ⟨rfl, rfl⟩) rfl rfl) (w.2.2.2.2.2.1 e_18) (fun v_17 h_15 _ _ _ w => ?_)
      exact w_X37_work_136 hK21 hK103 w
    · refine jw_gen (ls' := _) (st' := [vR 6 (jfr h 23 r1), vR 26 (jar h (jfr h 133 r0) (ixn x8)), vR 8 (jar h r6 (ixn (jai h (jfr h 134 r0) (ixn x8))))]) (jgl_rf _ _) (And.intro (Or.inl rfl) (And.intro (Or.inr ⟨_, _, _, rfl, rfl, Or.inr (Or.inr (by rw [e_18]; rfl))⟩) (jgs_rf _ _))) ?_
      refine jw_cR (st := [vR 8 (jar h r6 (ixn (jai h (jfr h 134 r0) (ixn x8))))]) (sa := [vR 26 (jar h (jfr h 133 r0) (ixn x8)), vR 6 (jfr h 23 r1)]) okX32_at rfl rfl rfl rfl rfl rfl (jstp_up (sa := [vR 6 (jfr h 23 r1)]) (st := [vR 8 (jar h r6 (ixn (jai h (jfr h 134 r0) (ixn x8))))]) rfl (lw_g (jtb_mem (c := 13) (i := 99) rfl) rfl) um34 okX32_at g_14 (fun _ _ => by rw [e_18]; exact ⟨rfl, rfl⟩) rfl rfl) (w.2.2.2.2.2.2.1 e_18) (fun v_17 h_15 _ _ _ w => ?_)
      exact w_X37_work_136 hK21 hK103 w
    · refine jw_gen (ls' := _) (st' := [vR 6 (jfr h 23 r1), vR 27 (jar h (jfr h 133 r0) (ixn x8)), vR 8 (jar h r6 (ixn (jai h (jfr h 134 r0) (ixn x8))))]) (jgl_rf _ _) (And.intro (Or.inl rfl) (And.intro (Or.inr ⟨_, _, _, rfl, rfl, Or.inr (Or.inr (by rw [e_18]; rfl))⟩) (jgs_rf _ _))) ?_
      refine jw_cR (st := [vR 8 (jar h r6 (ixn (jai h (jfr h 134 r0) (ixn x8))))]) (sa := [vR 27 (jar h (jfr h 133 r0) (ixn x8)), vR 6 (jfr h 23 r1)]) okX33_at rfl rfl rfl rfl rfl rfl (jstp_up (sa := [vR 6 (jfr h 23 r1)]) (st := [vR 8 (jar h r6 (ixn (jai h (jfr h 134 r0) (ixn x8))))]) rfl (lw_g (jtb_mem (c := 13) (i := 99) rfl) rfl) um35 okX33_at g_14 (fun _ _ => by rw [e_18]; exact ⟨rfl, rfl⟩) rfl rfl) (w.2.2.2.2.2.2.2.1 e_18) (fun v_17 h_15 _ _ _ w => ?_)
      exact w_X37_work_136 hK21 hK103 w
    · refine jw_gen (ls' := _) (st' := [vR 6 (jfr h 23 r1), vR 28 (jar h (jfr h 133 r0) (ixn x8)), vR 8 (jar h r6 (ixn (jai h (jfr h 134 r0) (ixn x8))))]) (jgl_rf _ _) (And.intro (Or.inl rfl) (And.intro (Or.inr ⟨_, _, _, rfl, rfl, Or.inr (Or.inr (by rw [e_18]; rfl))⟩) (jgs_rf _ _))) ?_
      refine jw_cR (st := [vR 8 (jar h r6 (ixn (jai h (jfr h 134 r0) (ixn x8))))]) (sa := [vR 28 (jar h (jfr h 133 r0) (ixn x8)), vR 6 (jfr h 23 r1)]) okX34_at rfl rfl rfl rfl rfl rfl (jstp_up (sa := [vR 6 (jfr h 23 r1)]) (st := [vR 8 (jar h r6 (ixn (jai h (jfr h 134 r0) (ixn x8))))]) rfl (lw_g (jtb_mem (c := 13) (i := 99) rfl) rfl) um36 okX34_at g_14 (fun _ _ => by rw [e_18]; exact ⟨rfl, rfl⟩) rfl rfl) (w.2.2.2.2.2.2.2.2.1 e_18) (fun v_17 h_15 _ _ _ w => ?_)
      exact w_X37_work_136 hK21 hK103 w
    · refine jw_gen (ls' := _) (st' := [vR 6 (jfr h 23 r1), vR 29 (jar h (jfr h 133 r0) (ixn x8)), vR 8 (jar h r6 (ixn (jai h (jfr h 134 r0) (ixn x8))))]) (jgl_rf _ _) (And.intro (Or.inl rfl) (And.intro (Or.inr ⟨_, _, _, rfl, rfl, Or.inr (Or.inr (by rw [e_18]; rfl))⟩) (jgs_rf _ _))) ?_
      refine jw_cR (st := [vR 8 (jar h r6 (ixn (jai h (jfr h 134 r0) (ixn x8))))]) (sa := [vR 29 (jar h (jfr h 133 r0) (ixn x8)), vR 6 (jfr h 23 r1)]) okX35_at rfl rfl rfl rfl rfl rfl (jstp_up (sa := [vR 6 (jfr h 23 r1)]) (st := [vR 8 (jar h r6 (ixn (jai h (jfr h 134 r0) (ixn x8))))]) rfl (lw_g (jtb_mem (c := 13) (i := 99) rfl) rfl) um37 okX35_at g_14 (fun _ _ => by rw [e_18]; exact ⟨rfl, rfl⟩) rfl rfl) (w.2.2.2.2.2.2.2.2.2 e_18) (fun v_17 h_15 _ _ _ w => ?_)
      exact w_X37_work_136 hK21 hK103 w
def L_X37_work_103 (D : JD) (d : Nat) (Q : JO → JH → Prop) (K21 : Nat → Nat → Nat → Int32 → Nat → Int32 → JH → Prop) : Nat → Nat → Nat → Nat → Int32 → Nat → Int32 → Nat → Int32 → JH → Prop
  | 0 => fun _ _ _ _ _ _ _ _ _ => False
  | n + 1 => fun r0 r1 r2 x3 r4 x5 r6 x8 h => W_X37_work_103 D d Q K21 (L_X37_work_103 D d Q K21 n) r0 r1 r2 x3 r4 x5 r6 x8 h
theorem l_X37_work_103 {D : JD} {d : Nat} {Q : JO → JH → Prop} {K21 : Nat → Nat → Nat → Int32 → Nat → Int32 → JH → Prop} (hK21 : ∀ (r0 : Nat) (r1 : Nat) (r2 : Nat) (x3 : Int32) (r4 : Nat) (x5 : Int32) (h : JH), K21 r0 r1 r2 x3 r4 x5 h → JW D (d + 1) mX37_work 21 [some (vR 30 r0), some (vR 3 r1), some (vR 5 r2), some (vI x3), some (vR 71 r4), some (vI x5), none, none, none] [] h Q) : ∀ (n : Nat) (r0 : Nat) (r1 : Nat) (r2 : Nat) (x3 : Int32) (r4 : Nat) (x5 : Int32) (r6 : Nat) (x8 : Int32) (h : JH), L_X37_work_103 D d Q K21 n r0 r1 r2 x3 r4 x5 r6 x8 h → JW D (d + 1) mX37_work 103 [some (vR 30 r0), some (vR 3 r1), some (vR 5 r2), some (vI x3), some (vR 71 r4), some (vI x5), some (vR 76 r6), none, some (vI x8)] [] h Q := by
  intro n
  induction n with
  | zero => intro _ _ _ _ _ _ _ _ _ w; exact w.elim
  | succ n ih => intro _ _ _ _ _ _ _ _ h w; exact w_X37_work_103 hK21 ih w
def W_X37_work_71 (D : JD) (d : Nat) (Q : JO → JH → Prop) (K21 : Nat → Nat → Nat → Int32 → Nat → Int32 → JH → Prop) (K71 : Nat → Nat → Nat → Int32 → Nat → Int32 → Nat → Nat → Int32 → JH → Prop) (r0 : Nat) (r1 : Nat) (r2 : Nat) (x3 : Int32) (r4 : Nat) (x5 : Int32) (r6 : Nat) (r7 : Nat) (x8 : Int32) (h : JH) : Prop :=
  r2 ≠ 0 ∧ (((jfi h 44 r2) ≤ x8 → ∃ n, L_X37_work_103 D d Q K21 n r0 r1 r2 x3 r4 x5 r6 (0 : Int32) h) ∧ (¬ (jfi h 44 r2) ≤ x8 → r6 ≠ 0 ∧ jin x8 (jln h r6) ∧ (r7 ≠ 0 ∧ jin x8 (jln h r7) ∧ ((jar h r6 (ixn x8)) ≠ 0 ∧ (cX14_copy D d (jar h r6 (ixn x8)) (jar h r7 (ixn x8)) h (pR D h 8 (fun v_10 h_8 => K71 r0 r1 r2 x3 r4 x5 r6 r7 (x8 + (1 : Int32)) h_8) (jth Q)))))))
theorem w_X37_work_71 {D : JD} {d : Nat} {Q : JO → JH → Prop} {K21 : Nat → Nat → Nat → Int32 → Nat → Int32 → JH → Prop} {K71 : Nat → Nat → Nat → Int32 → Nat → Int32 → Nat → Nat → Int32 → JH → Prop} {r0 : Nat} {r1 : Nat} {r2 : Nat} {x3 : Int32} {r4 : Nat} {x5 : Int32} {r6 : Nat} {r7 : Nat} {x8 : Int32} {h : JH} (hK21 : ∀ (r0 : Nat) (r1 : Nat) (r2 : Nat) (x3 : Int32) (r4 : Nat) (x5 : Int32) (h : JH), K21 r0 r1 r2 x3 r4 x5 h → JW D (d + 1) mX37_work 21 [some (vR 30 r0), some (vR 3 r1), some (vR 5 r2), some (vI x3), some (vR 71 r4), some (vI x5), none, none, none] [] h Q) (hK71 : ∀ (r0 : Nat) (r1 : Nat) (r2 : Nat) (x3 : Int32) (r4 : Nat) (x5 : Int32) (r6 : Nat) (r7 : Nat) (x8 : Int32) (h : JH), K71 r0 r1 r2 x3 r4 x5 r6 r7 x8 h → JW D (d + 1) mX37_work 71 [some (vR 30 r0), some (vR 3 r1), some (vR 5 r2), some (vI x3), some (vR 71 r4), some (vI x5), some (vR 76 r6), some (vR 76 r7), some (vI x8)] [] h Q) (w : W_X37_work_71 D d Q K21 K71 r0 r1 r2 x3 r4 x5 r6 r7 x8 h) : JW D (d + 1) mX37_work 71 [some (vR 30 r0), some (vR 3 r1), some (vR 5 r2), some (vI x3), some (vR 71 r4), some (vI x5), some (vR 76 r6), some (vR 76 r7), some (vI x8)] [] h Q := by
  unfold W_X37_work_71 at w
  refine jw_iload (pc' := 73) rfl rfl ?_
  refine jw_aload_n (pc' := 74) rfl rfl ?_
  obtain ⟨g_1, w⟩ := w
  refine jw_getI (pc' := 77) (F := 44) rfl rfl rfl rfl g_1 ?_
  refine jw_icmp_ge (tgt := 100) (pc' := 80) rfl rfl (fun c_2 => ?_) (fun c_2 => ?_)
  · replace w := w.1 c_2
    refine jw_iconst (pc' := 101) (x := (0 : Int32)) rfl rfl ?_
    refine jw_istore (pc' := 103) (ls' := [some (vR 30 r0), some (vR 3 r1), some (vR 5 r2), some (vI x3), some (vR 71 r4), some (vI x5), some (vR 76 r6), some (vR 76 r7), some (vI (0 : Int32))]) rfl (by decide) rfl ?_
    refine jw_gen (ls' := [some (vR 30 r0), some (vR 3 r1), some (vR 5 r2), some (vI x3), some (vR 71 r4), some (vI x5), some (vR 76 r6), none, some (vI (0 : Int32))]) (st' := []) (And.intro (Or.inl rfl) (And.intro (Or.inl rfl) (And.intro (Or.inl rfl) (And.intro (Or.inl rfl) (And.intro (Or.inl rfl) (And.intro (Or.inl rfl) (And.intro (Or.inl rfl) (And.intro (Or.inl rfl) (trivial))))))))) (trivial) ?_
    obtain ⟨n, w⟩ := w
    exact l_X37_work_103 hK21 n _ _ _ _ _ _ _ _ _ w
  · replace w := w.2 c_2
    refine jw_aload (pc' := 82) rfl rfl ?_
    refine jw_iload (pc' := 84) rfl rfl ?_
    obtain ⟨g_3, w⟩ := w
    obtain ⟨g_4, w⟩ := w
    refine jw_aald (pc' := 85) (t' := 8) rfl rfl rfl rfl g_3 g_4.ix g_4.2 ?_
    refine jw_aload (pc' := 87) rfl rfl ?_
    refine jw_iload (pc' := 89) rfl rfl ?_
    obtain ⟨g_5, w⟩ := w
    obtain ⟨g_6, w⟩ := w
    refine jw_aald (pc' := 90) (t' := 8) rfl rfl rfl rfl g_5 g_6.ix g_6.2 ?_
    obtain ⟨g_7, w⟩ := w
    refine jw_cR (st := []) (sa := [vR 8 (jar h r6 (ixn x8)), vR 8 (jar h r7 (ixn x8))]) okX14_copy rfl rfl rfl rfl rfl rfl (jstp_virtual (sa := [vR 8 (jar h r7 (ixn x8))]) (st := []) (k := 0) rfl rfl sX14_copy okX14_copy g_7 (one8.k g_7) rfl rfl) w (fun v_10 h_8 _ _ _ w => ?_)
    refine jw_pop (pc' := 94) rfl rfl ?_
    refine jw_iinc (pc' := 97) (y := x8 + (1 : Int32)) (ls' := [some (vR 30 r0), some (vR 3 r1), some (vR 5 r2), some (vI x3), some (vR 71 r4), some (vI x5), some (vR 76 r6), some (vR 76 r7), some (vI (x8 + (1 : Int32)))]) rfl (by decide) rfl rfl rfl ?_
    refine jw_goto (pc' := 71) rfl rfl ?_
    exact hK71 _ _ _ _ _ _ _ _ _ _ w
def L_X37_work_71 (D : JD) (d : Nat) (Q : JO → JH → Prop) (K21 : Nat → Nat → Nat → Int32 → Nat → Int32 → JH → Prop) : Nat → Nat → Nat → Nat → Int32 → Nat → Int32 → Nat → Nat → Int32 → JH → Prop
  | 0 => fun _ _ _ _ _ _ _ _ _ _ => False
  | n + 1 => fun r0 r1 r2 x3 r4 x5 r6 r7 x8 h => W_X37_work_71 D d Q K21 (L_X37_work_71 D d Q K21 n) r0 r1 r2 x3 r4 x5 r6 r7 x8 h
theorem l_X37_work_71 {D : JD} {d : Nat} {Q : JO → JH → Prop} {K21 : Nat → Nat → Nat → Int32 → Nat → Int32 → JH → Prop} (hK21 : ∀ (r0 : Nat) (r1 : Nat) (r2 : Nat) (x3 : Int32) (r4 : Nat) (x5 : Int32) (h : JH), K21 r0 r1 r2 x3 r4 x5 h → JW D (d + 1) mX37_work 21 [some (vR 30 r0), some (vR 3 r1), some (vR 5 r2), some (vI x3), some (vR 71 r4), some (vI x5), none, none, none] [] h Q) : ∀ (n : Nat) (r0 : Nat) (r1 : Nat) (r2 : Nat) (x3 : Int32) (r4 : Nat) (x5 : Int32) (r6 : Nat) (r7 : Nat) (x8 : Int32) (h : JH), L_X37_work_71 D d Q K21 n r0 r1 r2 x3 r4 x5 r6 r7 x8 h → JW D (d + 1) mX37_work 71 [some (vR 30 r0), some (vR 3 r1), some (vR 5 r2), some (vI x3), some (vR 71 r4), some (vI x5), some (vR 76 r6), some (vR 76 r7), some (vI x8)] [] h Q := by
  intro n
  induction n with
  | zero => intro _ _ _ _ _ _ _ _ _ _ w; exact w.elim
  | succ n ih => intro _ _ _ _ _ _ _ _ _ h w; exact w_X37_work_71 hK21 ih w
def W_X37_work_21 (D : JD) (d : Nat) (Q : JO → JH → Prop) (K21 : Nat → Nat → Nat → Int32 → Nat → Int32 → JH → Prop) (r0 : Nat) (r1 : Nat) (r2 : Nat) (x3 : Int32) (r4 : Nat) (x5 : Int32) (h : JH) : Prop :=
  r2 ≠ 0 ∧ (((jfi h 46 r2) ≤ x5 → ∃ n, L_X37_work_161 D d Q n r1 r2 x3 r4 (0 : Int32) h) ∧ (¬ (jfi h 46 r2) ≤ x5 → r0 ≠ 0 ∧ (cX36_picks D d r0 r1 x5 h (pI D h (fun v_6 h_4 => (¬ v_6 = 0 → r4 ≠ 0 ∧ jin x5 (jln h_4 r4) ∧ ∀ h_10 : JH, h_10 = wai h_4 r4 (ixn x5) (1 : Int32) → (r1 ≠ 0 ∧ (cX3_scratch D d r1 x5 h_10 (pR D h_10 76 (fun v_15 h_13 => cX5_row D d r2 x5 h_13 (pR D h_13 76 (fun v_18 h_16 => ∃ n, L_X37_work_71 D d Q K21 n r0 r1 r2 (x3 + (1 : Int32)) r4 x5 v_15 v_18 (0 : Int32) h_16) (jth Q))) (jth Q))))) ∧ (v_6 = 0 → W_X37_work_152 D d Q K21 r0 r1 r2 x3 r4 x5 h_4)) (jth Q)))))
theorem w_X37_work_21 {D : JD} {d : Nat} {Q : JO → JH → Prop} {K21 : Nat → Nat → Nat → Int32 → Nat → Int32 → JH → Prop} {r0 : Nat} {r1 : Nat} {r2 : Nat} {x3 : Int32} {r4 : Nat} {x5 : Int32} {h : JH} (hK21 : ∀ (r0 : Nat) (r1 : Nat) (r2 : Nat) (x3 : Int32) (r4 : Nat) (x5 : Int32) (h : JH), K21 r0 r1 r2 x3 r4 x5 h → JW D (d + 1) mX37_work 21 [some (vR 30 r0), some (vR 3 r1), some (vR 5 r2), some (vI x3), some (vR 71 r4), some (vI x5), none, none, none] [] h Q) (w : W_X37_work_21 D d Q K21 r0 r1 r2 x3 r4 x5 h) : JW D (d + 1) mX37_work 21 [some (vR 30 r0), some (vR 3 r1), some (vR 5 r2), some (vI x3), some (vR 71 r4), some (vI x5), none, none, none] [] h Q := by
  unfold W_X37_work_21 at w
  refine jw_iload (pc' := 23) rfl rfl ?_
  refine jw_aload_n (pc' := 24) rfl rfl ?_
  obtain ⟨g_1, w⟩ := w
  refine jw_getI (pc' := 27) (F := 46) rfl rfl rfl rfl g_1 ?_
  refine jw_icmp_ge (tgt := 158) (pc' := 30) rfl rfl (fun c_2 => ?_) (fun c_2 => ?_)
  · replace w := w.1 c_2
    refine jw_iconst (pc' := 159) (x := (0 : Int32)) rfl rfl ?_
    refine jw_istore (pc' := 161) (ls' := [some (vR 30 r0), some (vR 3 r1), some (vR 5 r2), some (vI x3), some (vR 71 r4), some (vI (0 : Int32)), none, none, none]) rfl (by decide) rfl ?_
    refine jw_gen (ls' := [none, some (vR 3 r1), some (vR 5 r2), some (vI x3), some (vR 71 r4), some (vI (0 : Int32)), none, none, none]) (st' := []) (And.intro (Or.inl rfl) (And.intro (Or.inl rfl) (And.intro (Or.inl rfl) (And.intro (Or.inl rfl) (And.intro (Or.inl rfl) (trivial)))))) (trivial) ?_
    obtain ⟨n, w⟩ := w
    exact l_X37_work_161 n _ _ _ _ _ _ w
  · replace w := w.2 c_2
    refine jw_aload_n (pc' := 31) rfl rfl ?_
    refine jw_aload_n (pc' := 32) rfl rfl ?_
    refine jw_iload (pc' := 34) rfl rfl ?_
    obtain ⟨g_3, w⟩ := w
    refine jw_cI (st := []) (sa := [vR 30 r0, vR 3 r1, vI x5]) okX36_picks rfl rfl rfl rfl rfl rfl (jstp_up (sa := [vR 3 r1, vI x5]) (st := []) rfl (lw_g (jtb_mem (c := 13) (i := 93) rfl) rfl) um117 okX36_picks g_3 (one30.k g_3) rfl rfl) w (fun v_6 h_4 _ _ w => ?_)
    refine jw_if_ne (tgt := 43) (pc' := 40) rfl rfl (fun c_7 => ?_) (fun c_7 => ?_)
    · replace w := w.1 c_7
      refine jw_aload (pc' := 45) rfl rfl ?_
      refine jw_iload (pc' := 47) rfl rfl ?_
      refine jw_iconst (pc' := 48) (x := (1 : Int32)) rfl rfl ?_
      obtain ⟨g_8, w⟩ := w
      obtain ⟨g_9, w⟩ := w
      refine jw_zast' (pc' := 49) rfl rfl rfl rfl rfl (rfl) g_8 g_9 (fun h_10 e_11 => ?_)
      replace w := w h_10 e_11
      refine jw_iinc (pc' := 52) (y := x3 + (1 : Int32)) (ls' := [some (vR 30 r0), some (vR 3 r1), some (vR 5 r2), some (vI (x3 + (1 : Int32))), some (vR 71 r4), some (vI x5), none, none, none]) rfl (by decide) rfl rfl rfl ?_
      refine jw_aload_n (pc' := 53) rfl rfl ?_
      refine jw_iload (pc' := 55) rfl rfl ?_
      obtain ⟨g_12, w⟩ := w
      refine jw_cR (st := []) (sa := [vR 3 r1, vI x5]) okX3_scratch rfl rfl rfl rfl rfl rfl (jstp_virtual (sa := [vI x5]) (st := []) (k := 0) rfl rfl sX3_scratch okX3_scratch g_12 (one3.k g_12) rfl rfl) w (fun v_15 h_13 _ _ _ w => ?_)
      refine jw_astore (pc' := 60) (ls' := [some (vR 30 r0), some (vR 3 r1), some (vR 5 r2), some (vI (x3 + (1 : Int32))), some (vR 71 r4), some (vI x5), some (vR 76 v_15), none, none]) rfl (by decide) rfl ?_
      refine jw_aload_n (pc' := 61) rfl rfl ?_
      refine jw_iload (pc' := 63) rfl rfl ?_
      refine jw_cR (st := []) (sa := [vR 5 r2, vI x5]) okX5_row rfl rfl rfl rfl rfl rfl (jstp_virtual (sa := [vI x5]) (st := []) (k := 0) rfl rfl sX5_row okX5_row g_1 (one5.k g_1) rfl rfl) w (fun v_18 h_16 _ _ _ w => ?_)
      refine jw_astore (pc' := 68) (ls' := [some (vR 30 r0), some (vR 3 r1), some (vR 5 r2), some (vI (x3 + (1 : Int32))), some (vR 71 r4), some (vI x5), some (vR 76 v_15), some (vR 76 v_18), none]) rfl (by decide) rfl ?_
      refine jw_iconst (pc' := 69) (x := (0 : Int32)) rfl rfl ?_
      refine jw_istore (pc' := 71) (ls' := [some (vR 30 r0), some (vR 3 r1), some (vR 5 r2), some (vI (x3 + (1 : Int32))), some (vR 71 r4), some (vI x5), some (vR 76 v_15), some (vR 76 v_18), some (vI (0 : Int32))]) rfl (by decide) rfl ?_
      obtain ⟨n, w⟩ := w
      exact l_X37_work_71 hK21 n _ _ _ _ _ _ _ _ _ _ w
    · replace w := w.2 c_7
      refine jw_goto (pc' := 152) rfl rfl ?_
      exact w_X37_work_152 hK21 w
def L_X37_work_21 (D : JD) (d : Nat) (Q : JO → JH → Prop) : Nat → Nat → Nat → Nat → Int32 → Nat → Int32 → JH → Prop
  | 0 => fun _ _ _ _ _ _ _ => False
  | n + 1 => fun r0 r1 r2 x3 r4 x5 h => W_X37_work_21 D d Q (L_X37_work_21 D d Q n) r0 r1 r2 x3 r4 x5 h
theorem l_X37_work_21 {D : JD} {d : Nat} {Q : JO → JH → Prop} : ∀ (n : Nat) (r0 : Nat) (r1 : Nat) (r2 : Nat) (x3 : Int32) (r4 : Nat) (x5 : Int32) (h : JH), L_X37_work_21 D d Q n r0 r1 r2 x3 r4 x5 h → JW D (d + 1) mX37_work 21 [some (vR 30 r0), some (vR 3 r1), some (vR 5 r2), some (vI x3), some (vR 71 r4), some (vI x5), none, none, none] [] h Q := by
  intro n
  induction n with
  | zero => intro _ _ _ _ _ _ _ w; exact w.elim
  | succ n ih => intro _ _ _ _ _ _ h w; exact w_X37_work_21 ih w
def W_X37_work_0 (D : JD) (d : Nat) (Q : JO → JH → Prop) (r0 : Nat) (r1 : Nat) (h : JH) : Prop :=
  r0 ≠ 0 ∧ ((jfr h 130 r0) ≠ 0 ∧ ((jfr h 138 (jfr h 130 r0)) ≠ 0 ∧ (jsm (jfi h 46 (jfr h 138 (jfr h 130 r0))) ∧ ∀ (r_4 : Nat) (h_5 : JH), r_4 = jsz h + 1 → h_5 = nwa h 71 (ixn (jfi h 46 (jfr h 138 (jfr h 130 r0)))) → (∃ n, L_X37_work_21 D d Q n r0 r1 (jfr h 138 (jfr h 130 r0)) (0 : Int32) r_4 (0 : Int32) h_5))))
theorem w_X37_work_0 {D : JD} {d : Nat} {Q : JO → JH → Prop} {r0 : Nat} {r1 : Nat} {h : JH} (w : W_X37_work_0 D d Q r0 r1 h) : JW D (d + 1) mX37_work 0 [some (vR 30 r0), some (vR 3 r1), none, none, none, none, none, none, none] [] h Q := by
  unfold W_X37_work_0 at w
  refine jw_aload_n (pc' := 1) rfl rfl ?_
  obtain ⟨g_1, w⟩ := w
  refine jw_getR (pc' := 4) (F := 130) (t' := 31) rfl rfl rfl rfl rfl g_1 ?_
  obtain ⟨g_2, w⟩ := w
  refine jw_getR (pc' := 7) (F := 138) (t' := 5) rfl rfl rfl rfl rfl g_2 ?_
  refine jw_astore_n (pc' := 8) (ls' := [some (vR 30 r0), some (vR 3 r1), some (vR 5 (jfr h 138 (jfr h 130 r0))), none, none, none, none, none, none]) rfl (by decide) rfl ?_
  refine jw_iconst (pc' := 9) (x := (0 : Int32)) rfl rfl ?_
  refine jw_istore_n (pc' := 10) (ls' := [some (vR 30 r0), some (vR 3 r1), some (vR 5 (jfr h 138 (jfr h 130 r0))), some (vI (0 : Int32)), none, none, none, none, none]) rfl (by decide) rfl ?_
  refine jw_aload_n (pc' := 11) rfl rfl ?_
  obtain ⟨g_3, w⟩ := w
  refine jw_getI (pc' := 14) (F := 46) rfl rfl rfl rfl g_3 ?_
  obtain ⟨g_8, w⟩ := w
  refine jw_newa' (pc' := 16) (n := ixn (jfi h 46 (jfr h 138 (jfr h 130 r0)))) (k := 71) rfl rfl rfl rfl rfl rfl (lw_g (jtb_mem (c := 9) (i := 151) rfl) rfl) g_8.ix g_8.b1 (fun r_4 h_5 e_6 e_7 => ?_)
  replace w := w r_4 h_5 e_6 e_7
  refine jw_astore (pc' := 18) (ls' := [some (vR 30 r0), some (vR 3 r1), some (vR 5 (jfr h 138 (jfr h 130 r0))), some (vI (0 : Int32)), some (vR 71 r_4), none, none, none, none]) rfl (by decide) rfl ?_
  refine jw_iconst (pc' := 19) (x := (0 : Int32)) rfl rfl ?_
  refine jw_istore (pc' := 21) (ls' := [some (vR 30 r0), some (vR 3 r1), some (vR 5 (jfr h 138 (jfr h 130 r0))), some (vI (0 : Int32)), some (vR 71 r_4), some (vI (0 : Int32)), none, none, none]) rfl (by decide) rfl ?_
  obtain ⟨n, w⟩ := w
  exact l_X37_work_21 n _ _ _ _ _ _ _ w
def T_X37_work (D : JD) (d : Nat) (Q : JO → JH → Prop) (r0 : Nat) (r1 : Nat) (h : JH) : Prop := W_X37_work_0 D d Q r0 r1 h
theorem t_X37_work {D : JD} {d : Nat} {Q : JO → JH → Prop} {r0 : Nat} {r1 : Nat} {h : JH} (w : T_X37_work D d Q r0 r1 h) : cX37_work D (d + 1) r0 r1 h Q := by
  unfold T_X37_work at w
  unfold cX37_work
  exact w_X37_work_0 w
def W_X38_init_0 (D : JD) (d : Nat) (Q : JO → JH → Prop) (r0 : Nat) (h : JH) : Prop :=
  r0 ≠ 0 ∧ (Q (.inl none) h)
theorem w_X38_init_0 {D : JD} {d : Nat} {Q : JO → JH → Prop} {r0 : Nat} {h : JH} (w : W_X38_init_0 D d Q r0 h) : JW D (d + 1) mX38_init 0 [some (vR 31 r0)] [] h Q := by
  unfold W_X38_init_0 at w
  refine jw_aload_n (pc' := 1) rfl rfl ?_
  obtain ⟨g_1, w⟩ := w
  refine jw_obj (pc' := 4) rfl (lw_g (jtb_mem (c := 8) (i := 206) rfl) rfl) rfl g_1 ?_
  exact jw_return rfl rfl w
def T_X38_init (D : JD) (d : Nat) (Q : JO → JH → Prop) (r0 : Nat) (h : JH) : Prop := W_X38_init_0 D d Q r0 h
theorem t_X38_init {D : JD} {d : Nat} {Q : JO → JH → Prop} {r0 : Nat} {h : JH} (w : T_X38_init D d Q r0 h) : cX38_init D (d + 1) r0 h Q := by
  unfold T_X38_init at w
  unfold cX38_init
  exact w_X38_init_0 w
def W_X39_init_0 (D : JD) (d : Nat) (Q : JO → JH → Prop) (r0 : Nat) (r1 : Nat) (r2 : Nat) (h : JH) : Prop :=
  r0 ≠ 0 ∧ (cX36_init D d r0 r1 h (pV D h (fun h_2 => ∀ h_5 : JH, h_5 = wfr h_2 131 r0 r2 → (Q (.inl none) h_5)) (jth Q)))
theorem w_X39_init_0 {D : JD} {d : Nat} {Q : JO → JH → Prop} {r0 : Nat} {r1 : Nat} {r2 : Nat} {h : JH} (w : W_X39_init_0 D d Q r0 r1 r2 h) : JW D (d + 1) mX39_init 0 [some (vR 32 r0), some (vR 64 r1), some (vR 55 r2)] [] h Q := by
  unfold W_X39_init_0 at w
  refine jw_aload_n (pc' := 1) rfl rfl ?_
  refine jw_aload_n (pc' := 2) rfl rfl ?_
  obtain ⟨g_1, w⟩ := w
  refine jw_cV (st := []) (sa := [vR 32 r0, vR 64 r1]) okX36_init rfl rfl rfl rfl rfl rfl (jstp_init (sa := [vR 64 r1]) (st := []) rfl rfl sX36_init okX36_init (lw_g (jtb_mem (c := 8) (i := 199) rfl) rfl) g_1 rfl rfl) w (fun h_2 _ _ w => ?_)
  refine jw_aload_n (pc' := 6) rfl rfl ?_
  refine jw_aload_n (pc' := 7) rfl rfl ?_
  refine jw_putR' (pc' := 10) (F := 131) rfl rfl rfl (Or.inr rfl) (Or.inl rfl) rfl rfl rfl g_1 (fun h_5 e_6 => ?_)
  replace w := w h_5 e_6
  exact jw_return rfl rfl w
def T_X39_init (D : JD) (d : Nat) (Q : JO → JH → Prop) (r0 : Nat) (r1 : Nat) (r2 : Nat) (h : JH) : Prop := W_X39_init_0 D d Q r0 r1 r2 h
theorem t_X39_init {D : JD} {d : Nat} {Q : JO → JH → Prop} {r0 : Nat} {r1 : Nat} {r2 : Nat} {h : JH} (w : T_X39_init D d Q r0 r1 r2 h) : cX39_init D (d + 1) r0 r1 r2 h Q := by
  unfold T_X39_init at w
  unfold cX39_init
  exact w_X39_init_0 w
def W_X39_check_0 (D : JD) (d : Nat) (Q : JO → JH → Prop) (r0 : Nat) (r1 : Nat) (h : JH) : Prop :=
  r0 ≠ 0 ∧ (cX36_known D d r0 r1 h (pV D h (fun h_2 => r1 ≠ 0 ∧ (cX20_truth D d (jfr h_2 131 r0) (jfr h_2 23 r1) h_2 (pV D h_2 (fun h_6 => Q (.inl none) h_6) (jth Q)))) (jth Q)))
theorem w_X39_check_0 {D : JD} {d : Nat} {Q : JO → JH → Prop} {r0 : Nat} {r1 : Nat} {h : JH} (w : W_X39_check_0 D d Q r0 r1 h) : JW D (d + 1) mX39_check 0 [some (vR 32 r0), some (vR 3 r1)] [] h Q := by
  unfold W_X39_check_0 at w
  refine jw_aload_n (pc' := 1) rfl rfl ?_
  refine jw_aload_n (pc' := 2) rfl rfl ?_
  obtain ⟨g_1, w⟩ := w
  refine jw_cV (st := []) (sa := [vR 32 r0, vR 3 r1]) okX36_known rfl rfl rfl rfl rfl rfl (jstp_up (sa := [vR 3 r1]) (st := []) rfl (lw_g (jtb_mem (c := 10) (i := 27) rfl) rfl) um118 okX36_known g_1 (one32.k g_1) rfl rfl) w (fun h_2 _ _ w => ?_)
  refine jw_aload_n (pc' := 6) rfl rfl ?_
  refine jw_getR (pc' := 9) (F := 131) (t' := 55) rfl rfl rfl rfl rfl g_1 ?_
  refine jw_aload_n (pc' := 10) rfl rfl ?_
  obtain ⟨g_5, w⟩ := w
  refine jw_getR (pc' := 13) (F := 23) (t' := 6) rfl rfl rfl rfl rfl g_5 ?_
  refine jw_cV (st := []) (sa := [vR 55 (jfr h_2 131 r0), vR 6 (jfr h_2 23 r1)]) okX20_truth rfl rfl rfl rfl rfl rfl (jstp_staticUp (sa := [vR 55 (jfr h_2 131 r0), vR 6 (jfr h_2 23 r1)]) (st := []) rfl (lw_g (jtb_mem (c := 10) (i := 40) rfl) rfl) (lw_g (jtb_mem (c := 10) (i := 41) rfl) rfl) rfl sX20_truth okX20_truth rfl rfl) w (fun h_6 _ _ w => ?_)
  exact jw_return rfl rfl w
def T_X39_check (D : JD) (d : Nat) (Q : JO → JH → Prop) (r0 : Nat) (r1 : Nat) (h : JH) : Prop := W_X39_check_0 D d Q r0 r1 h
theorem t_X39_check {D : JD} {d : Nat} {Q : JO → JH → Prop} {r0 : Nat} {r1 : Nat} {h : JH} (w : T_X39_check D d Q r0 r1 h) : cX39_check D (d + 1) r0 r1 h Q := by
  unfold T_X39_check at w
  unfold cX39_check
  exact w_X39_check_0 w
def W_X39_work_59 (D : JD) (d : Nat) (Q : JO → JH → Prop) (K21 : Nat → Nat → Nat → Nat → Int32 → Int32 → JH → Prop) (r0 : Nat) (r1 : Nat) (r2 : Nat) (r3 : Nat) (x4 : Int32) (x5 : Int32) (h : JH) : Prop :=
  K21 r0 r1 r2 r3 x4 (x5 + (1 : Int32)) h
theorem w_X39_work_59 {D : JD} {d : Nat} {Q : JO → JH → Prop} {K21 : Nat → Nat → Nat → Nat → Int32 → Int32 → JH → Prop} {r0 : Nat} {r1 : Nat} {r2 : Nat} {r3 : Nat} {x4 : Int32} {x5 : Int32} {h : JH} (hK21 : ∀ (r0 : Nat) (r1 : Nat) (r2 : Nat) (r3 : Nat) (x4 : Int32) (x5 : Int32) (h : JH), K21 r0 r1 r2 r3 x4 x5 h → JW D (d + 1) mX39_work 21 [some (vR 32 r0), some (vR 3 r1), some (vR 5 r2), some (vR 71 r3), some (vI x4), some (vI x5)] [] h Q) (w : W_X39_work_59 D d Q K21 r0 r1 r2 r3 x4 x5 h) : JW D (d + 1) mX39_work 59 [some (vR 32 r0), some (vR 3 r1), some (vR 5 r2), some (vR 71 r3), some (vI x4), some (vI x5)] [] h Q := by
  unfold W_X39_work_59 at w
  refine jw_iinc (pc' := 62) (y := x5 + (1 : Int32)) (ls' := [some (vR 32 r0), some (vR 3 r1), some (vR 5 r2), some (vR 71 r3), some (vI x4), some (vI (x5 + (1 : Int32)))]) rfl (by decide) rfl rfl rfl ?_
  refine jw_goto (pc' := 21) rfl rfl ?_
  exact hK21 _ _ _ _ _ _ _ w
def W_X39_work_48 (D : JD) (d : Nat) (Q : JO → JH → Prop) (K21 : Nat → Nat → Nat → Nat → Int32 → Int32 → JH → Prop) (r0 : Nat) (r1 : Nat) (r2 : Nat) (r3 : Nat) (x4 : Int32) (x5 : Int32) (q0 : Nat) (s1 : Int32) (s2 : Int32) (h : JH) : Prop :=
  q0 ≠ 0 ∧ jin s1 (jln h q0) ∧ jbo s2 ∧ ∀ h_4 : JH, h_4 = wai h q0 (ixn s1) s2 → (r3 ≠ 0 ∧ jin x5 (jln h_4 r3) ∧ ((¬ (jai h_4 r3 (ixn x5)) = 0 → W_X39_work_59 D d Q K21 r0 r1 r2 r3 x4 x5 h_4) ∧ ((jai h_4 r3 (ixn x5)) = 0 → W_X39_work_59 D d Q K21 r0 r1 r2 r3 (x4 + (1 : Int32)) x5 h_4)))
theorem w_X39_work_48 {D : JD} {d : Nat} {Q : JO → JH → Prop} {K21 : Nat → Nat → Nat → Nat → Int32 → Int32 → JH → Prop} {r0 : Nat} {r1 : Nat} {r2 : Nat} {r3 : Nat} {x4 : Int32} {x5 : Int32} {q0 : Nat} {s1 : Int32} {s2 : Int32} {h : JH} (hK21 : ∀ (r0 : Nat) (r1 : Nat) (r2 : Nat) (r3 : Nat) (x4 : Int32) (x5 : Int32) (h : JH), K21 r0 r1 r2 r3 x4 x5 h → JW D (d + 1) mX39_work 21 [some (vR 32 r0), some (vR 3 r1), some (vR 5 r2), some (vR 71 r3), some (vI x4), some (vI x5)] [] h Q) (w : W_X39_work_48 D d Q K21 r0 r1 r2 r3 x4 x5 q0 s1 s2 h) : JW D (d + 1) mX39_work 48 [some (vR 32 r0), some (vR 3 r1), some (vR 5 r2), some (vR 71 r3), some (vI x4), some (vI x5)] [vI s2, vI s1, vR 71 q0] h Q := by
  unfold W_X39_work_48 at w
  obtain ⟨g_1, w⟩ := w
  obtain ⟨g_2, w⟩ := w
  obtain ⟨g_3, w⟩ := w
  refine jw_zast' (pc' := 49) rfl rfl rfl rfl rfl (g_3.nr) g_1 g_2 (fun h_4 e_5 => ?_)
  replace w := w h_4 e_5
  refine jw_aload_n (pc' := 50) rfl rfl ?_
  refine jw_iload (pc' := 52) rfl rfl ?_
  obtain ⟨g_6, w⟩ := w
  obtain ⟨g_7, w⟩ := w
  refine jw_zald (pc' := 53) rfl rfl rfl rfl g_6 g_7.ix g_7.2 ?_
  refine jw_if_ne (tgt := 59) (pc' := 56) rfl rfl (fun c_8 => ?_) (fun c_8 => ?_)
  · replace w := w.1 c_8
    exact w_X39_work_59 hK21 w
  · replace w := w.2 c_8
    refine jw_iinc (pc' := 59) (y := x4 + (1 : Int32)) (ls' := [some (vR 32 r0), some (vR 3 r1), some (vR 5 r2), some (vR 71 r3), some (vI (x4 + (1 : Int32))), some (vI x5)]) rfl (by decide) rfl rfl rfl ?_
    exact w_X39_work_59 hK21 w
def W_X39_work_21 (D : JD) (d : Nat) (Q : JO → JH → Prop) (K21 : Nat → Nat → Nat → Nat → Int32 → Int32 → JH → Prop) (r0 : Nat) (r1 : Nat) (r2 : Nat) (r3 : Nat) (x4 : Int32) (x5 : Int32) (h : JH) : Prop :=
  r2 ≠ 0 ∧ (((jfi h 46 r2) ≤ x5 → cX5_keep D d r2 r3 h (pV D h (fun h_3 => ∀ (r_6 : Nat) (h_7 : JH), r_6 = jsz h_3 + 1 → h_7 = nwo h_3 11 4 → (cJ13_init D d r_6 h_7 (pV D h_7 (fun h_10 => cJ13_append_3 D d r_6 (jcs D 195) h_10 (pR D h_10 11 (fun v_15 h_13 => v_15 ≠ 0 ∧ (cJ13_append_2 D d v_15 x4 h_13 (pR D h_13 11 (fun v_19 h_17 => v_19 ≠ 0 ∧ (cJ13_toString D d v_19 h_17 (pR D h_17 64 (fun v_23 h_21 => Q (.inl (some (vR 64 v_23))) h_21) (jth Q)))) (jth Q)))) (jth Q))) (jth Q)))) (jth Q))) ∧ (¬ (jfi h 46 r2) ≤ x5 → r0 ≠ 0 ∧ (cX36_picks D d r0 r1 x5 h (pI D h (fun v_27 h_25 => (¬ v_27 = 0 → W_X39_work_48 D d Q K21 r0 r1 r2 r3 x4 x5 r3 x5 (0 : Int32) h_25) ∧ (v_27 = 0 → W_X39_work_48 D d Q K21 r0 r1 r2 r3 x4 x5 r3 x5 (1 : Int32) h_25)) (jth Q)))))
theorem w_X39_work_21 {D : JD} {d : Nat} {Q : JO → JH → Prop} {K21 : Nat → Nat → Nat → Nat → Int32 → Int32 → JH → Prop} {r0 : Nat} {r1 : Nat} {r2 : Nat} {r3 : Nat} {x4 : Int32} {x5 : Int32} {h : JH} (hK21 : ∀ (r0 : Nat) (r1 : Nat) (r2 : Nat) (r3 : Nat) (x4 : Int32) (x5 : Int32) (h : JH), K21 r0 r1 r2 r3 x4 x5 h → JW D (d + 1) mX39_work 21 [some (vR 32 r0), some (vR 3 r1), some (vR 5 r2), some (vR 71 r3), some (vI x4), some (vI x5)] [] h Q) (w : W_X39_work_21 D d Q K21 r0 r1 r2 r3 x4 x5 h) : JW D (d + 1) mX39_work 21 [some (vR 32 r0), some (vR 3 r1), some (vR 5 r2), some (vR 71 r3), some (vI x4), some (vI x5)] [] h Q := by
  unfold W_X39_work_21 at w
  refine jw_iload (pc' := 23) rfl rfl ?_
  refine jw_aload_n (pc' := 24) rfl rfl ?_
  obtain ⟨g_1, w⟩ := w
  refine jw_getI (pc' := 27) (F := 46) rfl rfl rfl rfl g_1 ?_
  refine jw_icmp_ge (tgt := 65) (pc' := 30) rfl rfl (fun c_2 => ?_) (fun c_2 => ?_)
  · replace w := w.1 c_2
    refine jw_aload_n (pc' := 66) rfl rfl ?_
    refine jw_aload_n (pc' := 67) rfl rfl ?_
    refine jw_cV (st := []) (sa := [vR 5 r2, vR 71 r3]) okX5_keep rfl rfl rfl rfl rfl rfl (jstp_virtual (sa := [vR 71 r3]) (st := []) (k := 0) rfl rfl sX5_keep okX5_keep g_1 (one5.k g_1) rfl rfl) w (fun h_3 _ _ w => ?_)
    refine jw_new' (pc' := 73) (k := 11) (n := 4) rfl rfl rfl rfl rfl rfl rfl (fun r_6 h_7 e_8 e_9 => ?_)
    replace w := w r_6 h_7 e_8 e_9
    refine jw_dup (pc' := 74) rfl rfl ?_
    refine jw_cV (st := [vR 11 r_6]) (sa := [vR 11 r_6]) okJ13_init rfl rfl rfl rfl rfl rfl (jstp_init (sa := []) (st := [vR 11 r_6]) rfl rfl sJ13_init okJ13_init (lw_g (jtb_mem (c := 3) (i := 134) rfl) rfl) (jnz e_8) rfl rfl) w (fun h_10 _ _ w => ?_)
    refine jw_ldcS (pc' := 79) rfl rfl rfl rfl ?_
    refine jw_cR (st := []) (sa := [vR 11 r_6, vR 51 (jcs D 195)]) okJ13_append_3 rfl rfl rfl rfl rfl rfl (jstp_virtual (sa := [vR 51 (jcs D 195)]) (st := []) (k := 0) rfl rfl sJ13_append_3 okJ13_append_3 (jnz e_8) (one11.k (jnz e_8)) rfl rfl) w (fun v_15 h_13 _ _ _ w => ?_)
    refine jw_iload (pc' := 84) rfl rfl ?_
    obtain ⟨g_16, w⟩ := w
    refine jw_cR (st := []) (sa := [vR 11 v_15, vI x4]) okJ13_append_2 rfl rfl rfl rfl rfl rfl (jstp_virtual (sa := [vI x4]) (st := []) (k := 0) rfl rfl sJ13_append_2 okJ13_append_2 g_16 (one11.k g_16) rfl rfl) w (fun v_19 h_17 _ _ _ w => ?_)
    obtain ⟨g_20, w⟩ := w
    refine jw_cR (st := []) (sa := [vR 11 v_19]) okJ13_toString rfl rfl rfl rfl rfl rfl (jstp_virtual (sa := []) (st := []) (k := 0) rfl rfl sJ13_toString okJ13_toString g_20 (one11.k g_20) rfl rfl) w (fun v_23 h_21 _ _ _ w => ?_)
    exact jw_areturn rfl rfl rfl rfl rfl w
  · replace w := w.2 c_2
    refine jw_aload_n (pc' := 31) rfl rfl ?_
    refine jw_iload (pc' := 33) rfl rfl ?_
    refine jw_aload_n (pc' := 34) rfl rfl ?_
    refine jw_aload_n (pc' := 35) rfl rfl ?_
    refine jw_iload (pc' := 37) rfl rfl ?_
    obtain ⟨g_24, w⟩ := w
    refine jw_cI (st := [vI x5, vR 71 r3]) (sa := [vR 32 r0, vR 3 r1, vI x5]) okX36_picks rfl rfl rfl rfl rfl rfl (jstp_up (sa := [vR 3 r1, vI x5]) (st := [vI x5, vR 71 r3]) rfl (lw_g (jtb_mem (c := 12) (i := 4) rfl) rfl) um119 okX36_picks g_24 (one32.k g_24) rfl rfl) w (fun v_27 h_25 _ _ w => ?_)
    refine jw_if_ne (tgt := 47) (pc' := 43) rfl rfl (fun c_28 => ?_) (fun c_28 => ?_)
    · replace w := w.1 c_28
      refine jw_iconst (pc' := 48) (x := (0 : Int32)) rfl rfl ?_
      exact w_X39_work_48 hK21 w
    · replace w := w.2 c_28
      refine jw_iconst (pc' := 44) (x := (1 : Int32)) rfl rfl ?_
      refine jw_goto (pc' := 48) rfl rfl ?_
      exact w_X39_work_48 hK21 w
def L_X39_work_21 (D : JD) (d : Nat) (Q : JO → JH → Prop) : Nat → Nat → Nat → Nat → Nat → Int32 → Int32 → JH → Prop
  | 0 => fun _ _ _ _ _ _ _ => False
  | n + 1 => fun r0 r1 r2 r3 x4 x5 h => W_X39_work_21 D d Q (L_X39_work_21 D d Q n) r0 r1 r2 r3 x4 x5 h
theorem l_X39_work_21 {D : JD} {d : Nat} {Q : JO → JH → Prop} : ∀ (n : Nat) (r0 : Nat) (r1 : Nat) (r2 : Nat) (r3 : Nat) (x4 : Int32) (x5 : Int32) (h : JH), L_X39_work_21 D d Q n r0 r1 r2 r3 x4 x5 h → JW D (d + 1) mX39_work 21 [some (vR 32 r0), some (vR 3 r1), some (vR 5 r2), some (vR 71 r3), some (vI x4), some (vI x5)] [] h Q := by
  intro n
  induction n with
  | zero => intro _ _ _ _ _ _ _ w; exact w.elim
  | succ n ih => intro _ _ _ _ _ _ h w; exact w_X39_work_21 ih w
def W_X39_work_0 (D : JD) (d : Nat) (Q : JO → JH → Prop) (r0 : Nat) (r1 : Nat) (h : JH) : Prop :=
  r0 ≠ 0 ∧ ((jfr h 130 r0) ≠ 0 ∧ ((jfr h 138 (jfr h 130 r0)) ≠ 0 ∧ (jsm (jfi h 46 (jfr h 138 (jfr h 130 r0))) ∧ ∀ (r_4 : Nat) (h_5 : JH), r_4 = jsz h + 1 → h_5 = nwa h 71 (ixn (jfi h 46 (jfr h 138 (jfr h 130 r0)))) → (∃ n, L_X39_work_21 D d Q n r0 r1 (jfr h 138 (jfr h 130 r0)) r_4 (0 : Int32) (0 : Int32) h_5))))
theorem w_X39_work_0 {D : JD} {d : Nat} {Q : JO → JH → Prop} {r0 : Nat} {r1 : Nat} {h : JH} (w : W_X39_work_0 D d Q r0 r1 h) : JW D (d + 1) mX39_work 0 [some (vR 32 r0), some (vR 3 r1), none, none, none, none] [] h Q := by
  unfold W_X39_work_0 at w
  refine jw_aload_n (pc' := 1) rfl rfl ?_
  obtain ⟨g_1, w⟩ := w
  refine jw_getR (pc' := 4) (F := 130) (t' := 31) rfl rfl rfl rfl rfl g_1 ?_
  obtain ⟨g_2, w⟩ := w
  refine jw_getR (pc' := 7) (F := 138) (t' := 5) rfl rfl rfl rfl rfl g_2 ?_
  refine jw_astore_n (pc' := 8) (ls' := [some (vR 32 r0), some (vR 3 r1), some (vR 5 (jfr h 138 (jfr h 130 r0))), none, none, none]) rfl (by decide) rfl ?_
  refine jw_aload_n (pc' := 9) rfl rfl ?_
  obtain ⟨g_3, w⟩ := w
  refine jw_getI (pc' := 12) (F := 46) rfl rfl rfl rfl g_3 ?_
  obtain ⟨g_8, w⟩ := w
  refine jw_newa' (pc' := 14) (n := ixn (jfi h 46 (jfr h 138 (jfr h 130 r0)))) (k := 71) rfl rfl rfl rfl rfl rfl (lw_g (jtb_mem (c := 9) (i := 151) rfl) rfl) g_8.ix g_8.b1 (fun r_4 h_5 e_6 e_7 => ?_)
  replace w := w r_4 h_5 e_6 e_7
  refine jw_astore_n (pc' := 15) (ls' := [some (vR 32 r0), some (vR 3 r1), some (vR 5 (jfr h 138 (jfr h 130 r0))), some (vR 71 r_4), none, none]) rfl (by decide) rfl ?_
  refine jw_iconst (pc' := 16) (x := (0 : Int32)) rfl rfl ?_
  refine jw_istore (pc' := 18) (ls' := [some (vR 32 r0), some (vR 3 r1), some (vR 5 (jfr h 138 (jfr h 130 r0))), some (vR 71 r_4), some (vI (0 : Int32)), none]) rfl (by decide) rfl ?_
  refine jw_iconst (pc' := 19) (x := (0 : Int32)) rfl rfl ?_
  refine jw_istore (pc' := 21) (ls' := [some (vR 32 r0), some (vR 3 r1), some (vR 5 (jfr h 138 (jfr h 130 r0))), some (vR 71 r_4), some (vI (0 : Int32)), some (vI (0 : Int32))]) rfl (by decide) rfl ?_
  obtain ⟨n, w⟩ := w
  exact l_X39_work_21 n _ _ _ _ _ _ _ w
def T_X39_work (D : JD) (d : Nat) (Q : JO → JH → Prop) (r0 : Nat) (r1 : Nat) (h : JH) : Prop := W_X39_work_0 D d Q r0 r1 h
theorem t_X39_work {D : JD} {d : Nat} {Q : JO → JH → Prop} {r0 : Nat} {r1 : Nat} {h : JH} (w : T_X39_work D d Q r0 r1 h) : cX39_work D (d + 1) r0 r1 h Q := by
  unfold T_X39_work at w
  unfold cX39_work
  exact w_X39_work_0 w
def W_X4_init_14 (D : JD) (d : Nat) (Q : JO → JH → Prop) (K14 : Nat → Int32 → JH → Prop) (r0 : Nat) (x1 : Int32) (h : JH) : Prop :=
  ((4 : Int32) ≤ x1 → Q (.inl none) h) ∧ (¬ (4 : Int32) ≤ x1 → r0 ≠ 0 ∧ (∀ (r_3 : Nat) (h_4 : JH), r_3 = jsz h + 1 → h_4 = nwo h 5 5 → (cX5_init D d r_3 h_4 (pV D h_4 (fun h_7 => (jfr h 40 r0) ≠ 0 ∧ jin x1 (jln h_7 (jfr h 40 r0)) ∧ ∀ h_12 : JH, h_12 = war h_7 (jfr h 40 r0) (ixn x1) r_3 → (K14 r0 (x1 + (1 : Int32)) h_12)) (jth Q)))))
theorem w_X4_init_14 {D : JD} {d : Nat} {Q : JO → JH → Prop} {K14 : Nat → Int32 → JH → Prop} {r0 : Nat} {x1 : Int32} {h : JH} (hK14 : ∀ (r0 : Nat) (x1 : Int32) (h : JH), K14 r0 x1 h → JW D (d + 1) mX4_init 14 [some (vR 4 r0), some (vI x1)] [] h Q) (w : W_X4_init_14 D d Q K14 r0 x1 h) : JW D (d + 1) mX4_init 14 [some (vR 4 r0), some (vI x1)] [] h Q := by
  unfold W_X4_init_14 at w
  refine jw_iload_n (pc' := 15) rfl rfl ?_
  refine jw_iconst (pc' := 16) (x := (4 : Int32)) rfl rfl ?_
  refine jw_icmp_ge (tgt := 38) (pc' := 19) rfl rfl (fun c_1 => ?_) (fun c_1 => ?_)
  · replace w := w.1 c_1
    exact jw_return rfl rfl w
  · replace w := w.2 c_1
    refine jw_aload_n (pc' := 20) rfl rfl ?_
    obtain ⟨g_2, w⟩ := w
    refine jw_getR (pc' := 23) (F := 40) (t' := 139) rfl rfl rfl rfl rfl g_2 ?_
    refine jw_iload_n (pc' := 24) rfl rfl ?_
    refine jw_new' (pc' := 27) (k := 5) (n := 5) rfl rfl rfl rfl rfl rfl rfl (fun r_3 h_4 e_5 e_6 => ?_)
    replace w := w r_3 h_4 e_5 e_6
    refine jw_dup (pc' := 28) rfl rfl ?_
    refine jw_cV (st := [vR 5 r_3, vI x1, vR 139 (jfr h 40 r0)]) (sa := [vR 5 r_3]) okX5_init rfl rfl rfl rfl rfl rfl (jstp_init (sa := []) (st := [vR 5 r_3, vI x1, vR 139 (jfr h 40 r0)]) rfl rfl sX5_init okX5_init (lw_g (jtb_mem (c := 1) (i := 124) rfl) rfl) (jnz e_5) rfl rfl) w (fun h_7 _ _ w => ?_)
    obtain ⟨g_10, w⟩ := w
    obtain ⟨g_11, w⟩ := w
    refine jw_aast' (pc' := 32) rfl rfl rfl rfl rfl rfl g_10 g_11 (fun h_12 e_13 => ?_)
    replace w := w h_12 e_13
    refine jw_iinc (pc' := 35) (y := x1 + (1 : Int32)) (ls' := [some (vR 4 r0), some (vI (x1 + (1 : Int32)))]) rfl (by decide) rfl rfl rfl ?_
    refine jw_goto (pc' := 14) rfl rfl ?_
    exact hK14 _ _ _ w
def L_X4_init_14 (D : JD) (d : Nat) (Q : JO → JH → Prop) : Nat → Nat → Int32 → JH → Prop
  | 0 => fun _ _ _ => False
  | n + 1 => fun r0 x1 h => W_X4_init_14 D d Q (L_X4_init_14 D d Q n) r0 x1 h
theorem l_X4_init_14 {D : JD} {d : Nat} {Q : JO → JH → Prop} : ∀ (n : Nat) (r0 : Nat) (x1 : Int32) (h : JH), L_X4_init_14 D d Q n r0 x1 h → JW D (d + 1) mX4_init 14 [some (vR 4 r0), some (vI x1)] [] h Q := by
  intro n
  induction n with
  | zero => intro _ _ _ w; exact w.elim
  | succ n ih => intro _ _ h w; exact w_X4_init_14 ih w
def W_X4_init_0 (D : JD) (d : Nat) (Q : JO → JH → Prop) (r0 : Nat) (h : JH) : Prop :=
  r0 ≠ 0 ∧ (∀ (r_2 : Nat) (h_3 : JH), r_2 = jsz h + 1 → h_3 = nwa h 139 4 → (∀ h_6 : JH, h_6 = wfr h_3 40 r0 r_2 → (∃ n, L_X4_init_14 D d Q n r0 (0 : Int32) h_6)))
theorem w_X4_init_0 {D : JD} {d : Nat} {Q : JO → JH → Prop} {r0 : Nat} {h : JH} (w : W_X4_init_0 D d Q r0 h) : JW D (d + 1) mX4_init 0 [some (vR 4 r0), none] [] h Q := by
  unfold W_X4_init_0 at w
  refine jw_aload_n (pc' := 1) rfl rfl ?_
  obtain ⟨g_1, w⟩ := w
  refine jw_obj (pc' := 4) rfl (lw_g (jtb_mem (c := 1) (i := 118) rfl) rfl) rfl g_1 ?_
  refine jw_aload_n (pc' := 5) rfl rfl ?_
  refine jw_iconst (pc' := 6) (x := (4 : Int32)) rfl rfl ?_
  refine jw_anew' (pc' := 9) (n := 4) (k := 139) rfl rfl rfl rfl rfl rfl rfl (jtb_mem (c := 1) (i := 120) rfl) ⟨by decide, rfl⟩ rfl (fun r_2 h_3 e_4 e_5 => ?_)
  replace w := w r_2 h_3 e_4 e_5
  refine jw_putR' (pc' := 12) (F := 40) rfl rfl rfl (Or.inr rfl) (Or.inr ⟨rfl, rfl⟩) rfl rfl rfl g_1 (fun h_6 e_7 => ?_)
  replace w := w h_6 e_7
  refine jw_iconst (pc' := 13) (x := (0 : Int32)) rfl rfl ?_
  refine jw_istore_n (pc' := 14) (ls' := [some (vR 4 r0), some (vI (0 : Int32))]) rfl (by decide) rfl ?_
  obtain ⟨n, w⟩ := w
  exact l_X4_init_14 n _ _ _ w
def T_X4_init (D : JD) (d : Nat) (Q : JO → JH → Prop) (r0 : Nat) (h : JH) : Prop := W_X4_init_0 D d Q r0 h
theorem t_X4_init {D : JD} {d : Nat} {Q : JO → JH → Prop} {r0 : Nat} {h : JH} (w : T_X4_init D d Q r0 h) : cX4_init D (d + 1) r0 h Q := by
  unfold T_X4_init at w
  unfold cX4_init
  exact w_X4_init_0 w
def W_X4_copy_10 (D : JD) (d : Nat) (Q : JO → JH → Prop) (K10 : Nat → Nat → Int32 → JH → Prop) (r0 : Nat) (r1 : Nat) (x2 : Int32) (h : JH) : Prop :=
  r0 ≠ 0 ∧ (((jfi h 41 r0) ≤ x2 → Q (.inl none) h) ∧ (¬ (jfi h 41 r0) ≤ x2 → (jfr h 40 r0) ≠ 0 ∧ jin x2 (jln h (jfr h 40 r0)) ∧ (r1 ≠ 0 ∧ ((jfr h 40 r1) ≠ 0 ∧ jin x2 (jln h (jfr h 40 r1)) ∧ ((jar h (jfr h 40 r0) (ixn x2)) ≠ 0 ∧ (cX5_copy D d (jar h (jfr h 40 r0) (ixn x2)) (jar h (jfr h 40 r1) (ixn x2)) h (pV D h (fun h_9 => K10 r0 r1 (x2 + (1 : Int32)) h_9) (jth Q))))))))
theorem w_X4_copy_10 {D : JD} {d : Nat} {Q : JO → JH → Prop} {K10 : Nat → Nat → Int32 → JH → Prop} {r0 : Nat} {r1 : Nat} {x2 : Int32} {h : JH} (hK10 : ∀ (r0 : Nat) (r1 : Nat) (x2 : Int32) (h : JH), K10 r0 r1 x2 h → JW D (d + 1) mX4_copy 10 [some (vR 4 r0), some (vR 4 r1), some (vI x2)] [] h Q) (w : W_X4_copy_10 D d Q K10 r0 r1 x2 h) : JW D (d + 1) mX4_copy 10 [some (vR 4 r0), some (vR 4 r1), some (vI x2)] [] h Q := by
  unfold W_X4_copy_10 at w
  refine jw_iload_n (pc' := 11) rfl rfl ?_
  refine jw_aload_n (pc' := 12) rfl rfl ?_
  obtain ⟨g_1, w⟩ := w
  refine jw_getI (pc' := 15) (F := 41) rfl rfl rfl rfl g_1 ?_
  refine jw_icmp_ge (tgt := 39) (pc' := 18) rfl rfl (fun c_2 => ?_) (fun c_2 => ?_)
  · replace w := w.1 c_2
    exact jw_return rfl rfl w
  · replace w := w.2 c_2
    refine jw_aload_n (pc' := 19) rfl rfl ?_
    refine jw_getR (pc' := 22) (F := 40) (t' := 139) rfl rfl rfl rfl rfl g_1 ?_
    refine jw_iload_n (pc' := 23) rfl rfl ?_
    obtain ⟨g_3, w⟩ := w
    obtain ⟨g_4, w⟩ := w
    refine jw_aald (pc' := 24) (t' := 5) rfl rfl rfl rfl g_3 g_4.ix g_4.2 ?_
    refine jw_aload_n (pc' := 25) rfl rfl ?_
    obtain ⟨g_5, w⟩ := w
    refine jw_getR (pc' := 28) (F := 40) (t' := 139) rfl rfl rfl rfl rfl g_5 ?_
    refine jw_iload_n (pc' := 29) rfl rfl ?_
    obtain ⟨g_6, w⟩ := w
    obtain ⟨g_7, w⟩ := w
    refine jw_aald (pc' := 30) (t' := 5) rfl rfl rfl rfl g_6 g_7.ix g_7.2 ?_
    obtain ⟨g_8, w⟩ := w
    refine jw_cV (st := []) (sa := [vR 5 (jar h (jfr h 40 r0) (ixn x2)), vR 5 (jar h (jfr h 40 r1) (ixn x2))]) okX5_copy rfl rfl rfl rfl rfl rfl (jstp_virtual (sa := [vR 5 (jar h (jfr h 40 r1) (ixn x2))]) (st := []) (k := 0) rfl rfl sX5_copy okX5_copy g_8 (one5.k g_8) rfl rfl) w (fun h_9 _ _ w => ?_)
    refine jw_iinc (pc' := 36) (y := x2 + (1 : Int32)) (ls' := [some (vR 4 r0), some (vR 4 r1), some (vI (x2 + (1 : Int32)))]) rfl (by decide) rfl rfl rfl ?_
    refine jw_goto (pc' := 10) rfl rfl ?_
    exact hK10 _ _ _ _ w
def L_X4_copy_10 (D : JD) (d : Nat) (Q : JO → JH → Prop) : Nat → Nat → Nat → Int32 → JH → Prop
  | 0 => fun _ _ _ _ => False
  | n + 1 => fun r0 r1 x2 h => W_X4_copy_10 D d Q (L_X4_copy_10 D d Q n) r0 r1 x2 h
theorem l_X4_copy_10 {D : JD} {d : Nat} {Q : JO → JH → Prop} : ∀ (n : Nat) (r0 : Nat) (r1 : Nat) (x2 : Int32) (h : JH), L_X4_copy_10 D d Q n r0 r1 x2 h → JW D (d + 1) mX4_copy 10 [some (vR 4 r0), some (vR 4 r1), some (vI x2)] [] h Q := by
  intro n
  induction n with
  | zero => intro _ _ _ _ w; exact w.elim
  | succ n ih => intro _ _ _ h w; exact w_X4_copy_10 ih w
def W_X4_copy_0 (D : JD) (d : Nat) (Q : JO → JH → Prop) (r0 : Nat) (r1 : Nat) (h : JH) : Prop :=
  r1 ≠ 0 ∧ (r0 ≠ 0 ∧ ∀ h_3 : JH, h_3 = wfi h 41 r0 (jfi h 41 r1) → (∃ n, L_X4_copy_10 D d Q n r0 r1 (0 : Int32) h_3))
theorem w_X4_copy_0 {D : JD} {d : Nat} {Q : JO → JH → Prop} {r0 : Nat} {r1 : Nat} {h : JH} (w : W_X4_copy_0 D d Q r0 r1 h) : JW D (d + 1) mX4_copy 0 [some (vR 4 r0), some (vR 4 r1), none] [] h Q := by
  unfold W_X4_copy_0 at w
  refine jw_aload_n (pc' := 1) rfl rfl ?_
  refine jw_aload_n (pc' := 2) rfl rfl ?_
  obtain ⟨g_1, w⟩ := w
  refine jw_getI (pc' := 5) (F := 41) rfl rfl rfl rfl g_1 ?_
  obtain ⟨g_2, w⟩ := w
  refine jw_putI' (pc' := 8) (F := 41) rfl rfl rfl (Or.inr rfl) (Or.inl rfl) rfl (rfl) (rfl) rfl g_2 (fun h_3 e_4 => ?_)
  replace w := w h_3 e_4
  refine jw_iconst (pc' := 9) (x := (0 : Int32)) rfl rfl ?_
  refine jw_istore_n (pc' := 10) (ls' := [some (vR 4 r0), some (vR 4 r1), some (vI (0 : Int32))]) rfl (by decide) rfl ?_
  obtain ⟨n, w⟩ := w
  exact l_X4_copy_10 n _ _ _ _ w
def T_X4_copy (D : JD) (d : Nat) (Q : JO → JH → Prop) (r0 : Nat) (r1 : Nat) (h : JH) : Prop := W_X4_copy_0 D d Q r0 r1 h
theorem t_X4_copy {D : JD} {d : Nat} {Q : JO → JH → Prop} {r0 : Nat} {r1 : Nat} {h : JH} (w : T_X4_copy D d Q r0 r1 h) : cX4_copy D (d + 1) r0 r1 h Q := by
  unfold T_X4_copy at w
  unfold cX4_copy
  exact w_X4_copy_0 w
def W_X4_find_2 (D : JD) (d : Nat) (Q : JO → JH → Prop) (K2 : Nat → Nat → Int32 → JH → Prop) (r0 : Nat) (r1 : Nat) (x2 : Int32) (h : JH) : Prop :=
  r0 ≠ 0 ∧ (((jfi h 41 r0) ≤ x2 → Q (.inl (some (vR 5 0))) h) ∧ (¬ (jfi h 41 r0) ≤ x2 → (jfr h 40 r0) ≠ 0 ∧ jin x2 (jln h (jfr h 40 r0)) ∧ ((jar h (jfr h 40 r0) (ixn x2)) ≠ 0 ∧ ((jfr h 42 (jar h (jfr h 40 r0) (ixn x2))) ≠ 0 ∧ (cJ5_equals D d (jfr h 42 (jar h (jfr h 40 r0) (ixn x2))) r1 h (pI D h (fun v_9 h_7 => (v_9 = 0 → K2 r0 r1 (x2 + (1 : Int32)) h_7) ∧ (¬ v_9 = 0 → (jfr h_7 40 r0) ≠ 0 ∧ jin x2 (jln h_7 (jfr h_7 40 r0)) ∧ (Q (.inl (some (vR 5 (jar h_7 (jfr h_7 40 r0) (ixn x2))))) h_7))) (jth Q)))))))
theorem w_X4_find_2 {D : JD} {d : Nat} {Q : JO → JH → Prop} {K2 : Nat → Nat → Int32 → JH → Prop} {r0 : Nat} {r1 : Nat} {x2 : Int32} {h : JH} (hK2 : ∀ (r0 : Nat) (r1 : Nat) (x2 : Int32) (h : JH), K2 r0 r1 x2 h → JW D (d + 1) mX4_find 2 [some (vR 4 r0), some (vR 64 r1), some (vI x2)] [] h Q) (w : W_X4_find_2 D d Q K2 r0 r1 x2 h) : JW D (d + 1) mX4_find 2 [some (vR 4 r0), some (vR 64 r1), some (vI x2)] [] h Q := by
  unfold W_X4_find_2 at w
  refine jw_iload_n (pc' := 3) rfl rfl ?_
  refine jw_aload_n (pc' := 4) rfl rfl ?_
  obtain ⟨g_1, w⟩ := w
  refine jw_getI (pc' := 7) (F := 41) rfl rfl rfl rfl g_1 ?_
  refine jw_icmp_ge (tgt := 39) (pc' := 10) rfl rfl (fun c_2 => ?_) (fun c_2 => ?_)
  · replace w := w.1 c_2
    refine jw_null (pc' := 40) (t := 5) rfl ?_
    exact jw_areturn rfl rfl rfl rfl rfl w
  · replace w := w.2 c_2
    refine jw_aload_n (pc' := 11) rfl rfl ?_
    refine jw_getR (pc' := 14) (F := 40) (t' := 139) rfl rfl rfl rfl rfl g_1 ?_
    refine jw_iload_n (pc' := 15) rfl rfl ?_
    obtain ⟨g_3, w⟩ := w
    obtain ⟨g_4, w⟩ := w
    refine jw_aald (pc' := 16) (t' := 5) rfl rfl rfl rfl g_3 g_4.ix g_4.2 ?_
    obtain ⟨g_5, w⟩ := w
    refine jw_getR (pc' := 19) (F := 42) (t' := 64) rfl rfl rfl rfl rfl g_5 ?_
    refine jw_aload_n (pc' := 20) rfl rfl ?_
    obtain ⟨g_6, w⟩ := w
    refine jw_cI (st := []) (sa := [vR 64 (jfr h 42 (jar h (jfr h 40 r0) (ixn x2))), vR 64 r1]) okJ5_equals rfl rfl rfl rfl rfl rfl (jstp_virtual (sa := [vR 64 r1]) (st := []) (k := 0) rfl rfl sJ5_equals okJ5_equals g_6 (one64.k g_6) rfl rfl) w (fun v_9 h_7 _ _ w => ?_)
    refine jw_if_eq (tgt := 33) (pc' := 26) rfl rfl (fun c_10 => ?_) (fun c_10 => ?_)
    · replace w := w.1 c_10
      refine jw_iinc (pc' := 36) (y := x2 + (1 : Int32)) (ls' := [some (vR 4 r0), some (vR 64 r1), some (vI (x2 + (1 : Int32)))]) rfl (by decide) rfl rfl rfl ?_
      refine jw_goto (pc' := 2) rfl rfl ?_
      exact hK2 _ _ _ _ w
    · replace w := w.2 c_10
      refine jw_aload_n (pc' := 27) rfl rfl ?_
      refine jw_getR (pc' := 30) (F := 40) (t' := 139) rfl rfl rfl rfl rfl g_1 ?_
      refine jw_iload_n (pc' := 31) rfl rfl ?_
      obtain ⟨g_11, w⟩ := w
      obtain ⟨g_12, w⟩ := w
      refine jw_aald (pc' := 32) (t' := 5) rfl rfl rfl rfl g_11 g_12.ix g_12.2 ?_
      exact jw_areturn rfl rfl rfl rfl rfl w
def L_X4_find_2 (D : JD) (d : Nat) (Q : JO → JH → Prop) : Nat → Nat → Nat → Int32 → JH → Prop
  | 0 => fun _ _ _ _ => False
  | n + 1 => fun r0 r1 x2 h => W_X4_find_2 D d Q (L_X4_find_2 D d Q n) r0 r1 x2 h
theorem l_X4_find_2 {D : JD} {d : Nat} {Q : JO → JH → Prop} : ∀ (n : Nat) (r0 : Nat) (r1 : Nat) (x2 : Int32) (h : JH), L_X4_find_2 D d Q n r0 r1 x2 h → JW D (d + 1) mX4_find 2 [some (vR 4 r0), some (vR 64 r1), some (vI x2)] [] h Q := by
  intro n
  induction n with
  | zero => intro _ _ _ _ w; exact w.elim
  | succ n ih => intro _ _ _ h w; exact w_X4_find_2 ih w
def W_X4_find_0 (D : JD) (d : Nat) (Q : JO → JH → Prop) (r0 : Nat) (r1 : Nat) (h : JH) : Prop :=
  ∃ n, L_X4_find_2 D d Q n r0 r1 (0 : Int32) h
theorem w_X4_find_0 {D : JD} {d : Nat} {Q : JO → JH → Prop} {r0 : Nat} {r1 : Nat} {h : JH} (w : W_X4_find_0 D d Q r0 r1 h) : JW D (d + 1) mX4_find 0 [some (vR 4 r0), some (vR 64 r1), none] [] h Q := by
  unfold W_X4_find_0 at w
  refine jw_iconst (pc' := 1) (x := (0 : Int32)) rfl rfl ?_
  refine jw_istore_n (pc' := 2) (ls' := [some (vR 4 r0), some (vR 64 r1), some (vI (0 : Int32))]) rfl (by decide) rfl ?_
  obtain ⟨n, w⟩ := w
  exact l_X4_find_2 n _ _ _ _ w
def T_X4_find (D : JD) (d : Nat) (Q : JO → JH → Prop) (r0 : Nat) (r1 : Nat) (h : JH) : Prop := W_X4_find_0 D d Q r0 r1 h
theorem t_X4_find {D : JD} {d : Nat} {Q : JO → JH → Prop} {r0 : Nat} {r1 : Nat} {h : JH} (w : T_X4_find D d Q r0 r1 h) : cX4_find D (d + 1) r0 r1 h Q := by
  unfold T_X4_find at w
  unfold cX4_find
  exact w_X4_find_0 w
def W_X4_needed_0 (D : JD) (d : Nat) (Q : JO → JH → Prop) (r0 : Nat) (r1 : Nat) (h : JH) : Prop :=
  r0 ≠ 0 ∧ (cX4_find D d r0 r1 h (pR D h 5 (fun v_4 h_2 => (v_4 ≠ 0 → Q (.inl (some (vR 5 v_4))) h_2) ∧ (v_4 = 0 → cX1_fault D d (jcs D 156) h_2 (pR D h_2 9 (fun v_8 h_6 => v_8 ≠ 0 ∧ (Q (.inr v_8) h_6)) (jth Q)))) (jth Q)))
theorem w_X4_needed_0 {D : JD} {d : Nat} {Q : JO → JH → Prop} {r0 : Nat} {r1 : Nat} {h : JH} (w : W_X4_needed_0 D d Q r0 r1 h) : JW D (d + 1) mX4_needed 0 [some (vR 4 r0), some (vR 64 r1), none] [] h Q := by
  unfold W_X4_needed_0 at w
  refine jw_aload_n (pc' := 1) rfl rfl ?_
  refine jw_aload_n (pc' := 2) rfl rfl ?_
  obtain ⟨g_1, w⟩ := w
  refine jw_cR (st := []) (sa := [vR 4 r0, vR 64 r1]) okX4_find rfl rfl rfl rfl rfl rfl (jstp_virtual (sa := [vR 64 r1]) (st := []) (k := 0) rfl rfl sX4_find okX4_find g_1 (one4.k g_1) rfl rfl) w (fun v_4 h_2 _ _ _ w => ?_)
  refine jw_astore_n (pc' := 6) (ls' := [some (vR 4 r0), some (vR 64 r1), some (vR 5 v_4)]) rfl (by decide) rfl ?_
  refine jw_aload_n (pc' := 7) rfl rfl ?_
  refine jw_ifnonnull (tgt := 16) (pc' := 10) rfl rfl (fun c_5 => ?_) (fun c_5 => ?_)
  · replace w := w.1 c_5
    refine jw_aload_n (pc' := 17) rfl rfl ?_
    exact jw_areturn rfl rfl rfl rfl rfl w
  · replace w := w.2 c_5
    refine jw_ldcS (pc' := 12) rfl rfl rfl rfl ?_
    refine jw_cR (st := []) (sa := [vR 51 (jcs D 156)]) okX1_fault rfl rfl rfl rfl rfl rfl (jstp_static (sa := [vR 51 (jcs D 156)]) (st := []) rfl rfl sX1_fault okX1_fault rfl rfl) w (fun v_8 h_6 _ _ _ w => ?_)
    obtain ⟨g_9, w⟩ := w
    exact jw_athrow rfl rfl g_9 w
def T_X4_needed (D : JD) (d : Nat) (Q : JO → JH → Prop) (r0 : Nat) (r1 : Nat) (h : JH) : Prop := W_X4_needed_0 D d Q r0 r1 h
theorem t_X4_needed {D : JD} {d : Nat} {Q : JO → JH → Prop} {r0 : Nat} {r1 : Nat} {h : JH} (w : T_X4_needed D d Q r0 r1 h) : cX4_needed D (d + 1) r0 r1 h Q := by
  unfold T_X4_needed at w
  unfold cX4_needed
  exact w_X4_needed_0 w
def W_X4_drop_18 (D : JD) (d : Nat) (Q : JO → JH → Prop) (K18 : Nat → Nat → Int32 → JH → Prop) (r0 : Nat) (r1 : Nat) (x2 : Int32) (h : JH) : Prop :=
  r0 ≠ 0 ∧ (((jfi h 41 r0) ≤ (x2 + (1 : Int32)) → ∀ h_3 : JH, h_3 = wfi h 41 r0 ((jfi h 41 r0) - (1 : Int32)) → ((jfr h_3 40 r0) ≠ 0 ∧ jin (jfi h_3 41 r0) (jln h_3 (jfr h_3 40 r0)) ∧ ∀ h_7 : JH, h_7 = war h_3 (jfr h_3 40 r0) (ixn (jfi h_3 41 r0)) r1 → (Q (.inl none) h_7))) ∧ (¬ (jfi h 41 r0) ≤ (x2 + (1 : Int32)) → (jfr h 40 r0) ≠ 0 ∧ jin (x2 + (1 : Int32)) (jln h (jfr h 40 r0)) ∧ (jin x2 (jln h (jfr h 40 r0)) ∧ ∀ h_12 : JH, h_12 = war h (jfr h 40 r0) (ixn x2) (jar h (jfr h 40 r0) (ixn (x2 + (1 : Int32)))) → (K18 r0 r1 (x2 + (1 : Int32)) h_12))))
theorem w_X4_drop_18 {D : JD} {d : Nat} {Q : JO → JH → Prop} {K18 : Nat → Nat → Int32 → JH → Prop} {r0 : Nat} {r1 : Nat} {x2 : Int32} {h : JH} (hK18 : ∀ (r0 : Nat) (r1 : Nat) (x2 : Int32) (h : JH), K18 r0 r1 x2 h → JW D (d + 1) mX4_drop 18 [some (vR 4 r0), some (vR 5 r1), some (vI x2)] [] h Q) (w : W_X4_drop_18 D d Q K18 r0 r1 x2 h) : JW D (d + 1) mX4_drop 18 [some (vR 4 r0), some (vR 5 r1), some (vI x2)] [] h Q := by
  unfold W_X4_drop_18 at w
  refine jw_iload_n (pc' := 19) rfl rfl ?_
  refine jw_iconst (pc' := 20) (x := (1 : Int32)) rfl rfl ?_
  refine jw_iadd (pc' := 21) rfl ?_
  refine jw_aload_n (pc' := 22) rfl rfl ?_
  obtain ⟨g_1, w⟩ := w
  refine jw_getI (pc' := 25) (F := 41) rfl rfl rfl rfl g_1 ?_
  refine jw_icmp_ge (tgt := 48) (pc' := 28) rfl rfl (fun c_2 => ?_) (fun c_2 => ?_)
  · replace w := w.1 c_2
    refine jw_aload_n (pc' := 49) rfl rfl ?_
    refine jw_dup (pc' := 50) rfl rfl ?_
    refine jw_getI (pc' := 53) (F := 41) rfl rfl rfl rfl g_1 ?_
    refine jw_iconst (pc' := 54) (x := (1 : Int32)) rfl rfl ?_
    refine jw_isub (pc' := 55) rfl ?_
    refine jw_putI' (pc' := 58) (F := 41) rfl rfl rfl (Or.inr rfl) (Or.inl rfl) rfl (rfl) (rfl) rfl g_1 (fun h_3 e_4 => ?_)
    replace w := w h_3 e_4
    refine jw_aload_n (pc' := 59) rfl rfl ?_
    refine jw_getR (pc' := 62) (F := 40) (t' := 139) rfl rfl rfl rfl rfl g_1 ?_
    refine jw_aload_n (pc' := 63) rfl rfl ?_
    refine jw_getI (pc' := 66) (F := 41) rfl rfl rfl rfl g_1 ?_
    refine jw_aload_n (pc' := 67) rfl rfl ?_
    obtain ⟨g_5, w⟩ := w
    obtain ⟨g_6, w⟩ := w
    refine jw_aast' (pc' := 68) rfl rfl rfl rfl rfl rfl g_5 g_6 (fun h_7 e_8 => ?_)
    replace w := w h_7 e_8
    exact jw_return rfl rfl w
  · replace w := w.2 c_2
    refine jw_aload_n (pc' := 29) rfl rfl ?_
    refine jw_getR (pc' := 32) (F := 40) (t' := 139) rfl rfl rfl rfl rfl g_1 ?_
    refine jw_iload_n (pc' := 33) rfl rfl ?_
    refine jw_aload_n (pc' := 34) rfl rfl ?_
    refine jw_getR (pc' := 37) (F := 40) (t' := 139) rfl rfl rfl rfl rfl g_1 ?_
    refine jw_iload_n (pc' := 38) rfl rfl ?_
    refine jw_iconst (pc' := 39) (x := (1 : Int32)) rfl rfl ?_
    refine jw_iadd (pc' := 40) rfl ?_
    obtain ⟨g_9, w⟩ := w
    obtain ⟨g_10, w⟩ := w
    refine jw_aald (pc' := 41) (t' := 5) rfl rfl rfl rfl g_9 g_10.ix g_10.2 ?_
    obtain ⟨g_11, w⟩ := w
    refine jw_aast' (pc' := 42) rfl rfl rfl rfl rfl rfl g_9 g_11 (fun h_12 e_13 => ?_)
    replace w := w h_12 e_13
    refine jw_iinc (pc' := 45) (y := x2 + (1 : Int32)) (ls' := [some (vR 4 r0), some (vR 5 r1), some (vI (x2 + (1 : Int32)))]) rfl (by decide) rfl rfl rfl ?_
    refine jw_goto (pc' := 18) rfl rfl ?_
    exact hK18 _ _ _ _ w
def L_X4_drop_18 (D : JD) (d : Nat) (Q : JO → JH → Prop) : Nat → Nat → Nat → Int32 → JH → Prop
  | 0 => fun _ _ _ _ => False
  | n + 1 => fun r0 r1 x2 h => W_X4_drop_18 D d Q (L_X4_drop_18 D d Q n) r0 r1 x2 h
theorem l_X4_drop_18 {D : JD} {d : Nat} {Q : JO → JH → Prop} : ∀ (n : Nat) (r0 : Nat) (r1 : Nat) (x2 : Int32) (h : JH), L_X4_drop_18 D d Q n r0 r1 x2 h → JW D (d + 1) mX4_drop 18 [some (vR 4 r0), some (vR 5 r1), some (vI x2)] [] h Q := by
  intro n
  induction n with
  | zero => intro _ _ _ _ w; exact w.elim
  | succ n ih => intro _ _ _ h w; exact w_X4_drop_18 ih w
def W_X4_drop_2 (D : JD) (d : Nat) (Q : JO → JH → Prop) (K2 : Nat → Nat → Int32 → JH → Prop) (r0 : Nat) (r1 : Nat) (x2 : Int32) (h : JH) : Prop :=
  r0 ≠ 0 ∧ ((jfr h 40 r0) ≠ 0 ∧ jin x2 (jln h (jfr h 40 r0)) ∧ (((jar h (jfr h 40 r0) (ixn x2)) = r1 → ∃ n, L_X4_drop_18 D d Q n r0 r1 x2 h) ∧ (¬ (jar h (jfr h 40 r0) (ixn x2)) = r1 → K2 r0 r1 (x2 + (1 : Int32)) h)))
theorem w_X4_drop_2 {D : JD} {d : Nat} {Q : JO → JH → Prop} {K2 : Nat → Nat → Int32 → JH → Prop} {r0 : Nat} {r1 : Nat} {x2 : Int32} {h : JH} (hK2 : ∀ (r0 : Nat) (r1 : Nat) (x2 : Int32) (h : JH), K2 r0 r1 x2 h → JW D (d + 1) mX4_drop 2 [some (vR 4 r0), some (vR 5 r1), some (vI x2)] [] h Q) (w : W_X4_drop_2 D d Q K2 r0 r1 x2 h) : JW D (d + 1) mX4_drop 2 [some (vR 4 r0), some (vR 5 r1), some (vI x2)] [] h Q := by
  unfold W_X4_drop_2 at w
  refine jw_aload_n (pc' := 3) rfl rfl ?_
  obtain ⟨g_1, w⟩ := w
  refine jw_getR (pc' := 6) (F := 40) (t' := 139) rfl rfl rfl rfl rfl g_1 ?_
  refine jw_iload_n (pc' := 7) rfl rfl ?_
  obtain ⟨g_2, w⟩ := w
  obtain ⟨g_3, w⟩ := w
  refine jw_aald (pc' := 8) (t' := 5) rfl rfl rfl rfl g_2 g_3.ix g_3.2 ?_
  refine jw_aload_n (pc' := 9) rfl rfl ?_
  refine jw_acmp_eq (tgt := 18) (pc' := 12) rfl rfl (fun c_4 => ?_) (fun c_4 => ?_)
  · replace w := w.1 c_4
    obtain ⟨n, w⟩ := w
    exact l_X4_drop_18 n _ _ _ _ w
  · replace w := w.2 c_4
    refine jw_iinc (pc' := 15) (y := x2 + (1 : Int32)) (ls' := [some (vR 4 r0), some (vR 5 r1), some (vI (x2 + (1 : Int32)))]) rfl (by decide) rfl rfl rfl ?_
    refine jw_goto (pc' := 2) rfl rfl ?_
    exact hK2 _ _ _ _ w
def L_X4_drop_2 (D : JD) (d : Nat) (Q : JO → JH → Prop) : Nat → Nat → Nat → Int32 → JH → Prop
  | 0 => fun _ _ _ _ => False
  | n + 1 => fun r0 r1 x2 h => W_X4_drop_2 D d Q (L_X4_drop_2 D d Q n) r0 r1 x2 h
theorem l_X4_drop_2 {D : JD} {d : Nat} {Q : JO → JH → Prop} : ∀ (n : Nat) (r0 : Nat) (r1 : Nat) (x2 : Int32) (h : JH), L_X4_drop_2 D d Q n r0 r1 x2 h → JW D (d + 1) mX4_drop 2 [some (vR 4 r0), some (vR 5 r1), some (vI x2)] [] h Q := by
  intro n
  induction n with
  | zero => intro _ _ _ _ w; exact w.elim
  | succ n ih => intro _ _ _ h w; exact w_X4_drop_2 ih w
def W_X4_drop_0 (D : JD) (d : Nat) (Q : JO → JH → Prop) (r0 : Nat) (r1 : Nat) (h : JH) : Prop :=
  ∃ n, L_X4_drop_2 D d Q n r0 r1 (0 : Int32) h
theorem w_X4_drop_0 {D : JD} {d : Nat} {Q : JO → JH → Prop} {r0 : Nat} {r1 : Nat} {h : JH} (w : W_X4_drop_0 D d Q r0 r1 h) : JW D (d + 1) mX4_drop 0 [some (vR 4 r0), some (vR 5 r1), none] [] h Q := by
  unfold W_X4_drop_0 at w
  refine jw_iconst (pc' := 1) (x := (0 : Int32)) rfl rfl ?_
  refine jw_istore_n (pc' := 2) (ls' := [some (vR 4 r0), some (vR 5 r1), some (vI (0 : Int32))]) rfl (by decide) rfl ?_
  obtain ⟨n, w⟩ := w
  exact l_X4_drop_2 n _ _ _ _ w
def T_X4_drop (D : JD) (d : Nat) (Q : JO → JH → Prop) (r0 : Nat) (r1 : Nat) (h : JH) : Prop := W_X4_drop_0 D d Q r0 r1 h
theorem t_X4_drop {D : JD} {d : Nat} {Q : JO → JH → Prop} {r0 : Nat} {r1 : Nat} {h : JH} (w : T_X4_drop D d Q r0 r1 h) : cX4_drop D (d + 1) r0 r1 h Q := by
  unfold T_X4_drop at w
  unfold cX4_drop
  exact w_X4_drop_0 w
def W_X4_rows_4 (D : JD) (d : Nat) (Q : JO → JH → Prop) (K4 : Nat → Int32 → Int32 → JH → Prop) (r0 : Nat) (x1 : Int32) (x2 : Int32) (h : JH) : Prop :=
  r0 ≠ 0 ∧ (((jfi h 41 r0) ≤ x2 → Q (.inl (some (vI x1))) h) ∧ (¬ (jfi h 41 r0) ≤ x2 → (jfr h 40 r0) ≠ 0 ∧ jin x2 (jln h (jfr h 40 r0)) ∧ ((jar h (jfr h 40 r0) (ixn x2)) ≠ 0 ∧ (K4 r0 (x1 + (jfi h 46 (jar h (jfr h 40 r0) (ixn x2)))) (x2 + (1 : Int32)) h))))
theorem w_X4_rows_4 {D : JD} {d : Nat} {Q : JO → JH → Prop} {K4 : Nat → Int32 → Int32 → JH → Prop} {r0 : Nat} {x1 : Int32} {x2 : Int32} {h : JH} (hK4 : ∀ (r0 : Nat) (x1 : Int32) (x2 : Int32) (h : JH), K4 r0 x1 x2 h → JW D (d + 1) mX4_rows 4 [some (vR 4 r0), some (vI x1), some (vI x2)] [] h Q) (w : W_X4_rows_4 D d Q K4 r0 x1 x2 h) : JW D (d + 1) mX4_rows 4 [some (vR 4 r0), some (vI x1), some (vI x2)] [] h Q := by
  unfold W_X4_rows_4 at w
  refine jw_iload_n (pc' := 5) rfl rfl ?_
  refine jw_aload_n (pc' := 6) rfl rfl ?_
  obtain ⟨g_1, w⟩ := w
  refine jw_getI (pc' := 9) (F := 41) rfl rfl rfl rfl g_1 ?_
  refine jw_icmp_ge (tgt := 30) (pc' := 12) rfl rfl (fun c_2 => ?_) (fun c_2 => ?_)
  · replace w := w.1 c_2
    refine jw_iload_n (pc' := 31) rfl rfl ?_
    exact jw_ireturn rfl rfl (rfl) w
  · replace w := w.2 c_2
    refine jw_iload_n (pc' := 13) rfl rfl ?_
    refine jw_aload_n (pc' := 14) rfl rfl ?_
    refine jw_getR (pc' := 17) (F := 40) (t' := 139) rfl rfl rfl rfl rfl g_1 ?_
    refine jw_iload_n (pc' := 18) rfl rfl ?_
    obtain ⟨g_3, w⟩ := w
    obtain ⟨g_4, w⟩ := w
    refine jw_aald (pc' := 19) (t' := 5) rfl rfl rfl rfl g_3 g_4.ix g_4.2 ?_
    obtain ⟨g_5, w⟩ := w
    refine jw_getI (pc' := 22) (F := 46) rfl rfl rfl rfl g_5 ?_
    refine jw_iadd (pc' := 23) rfl ?_
    refine jw_istore_n (pc' := 24) (ls' := [some (vR 4 r0), some (vI (x1 + (jfi h 46 (jar h (jfr h 40 r0) (ixn x2))))), some (vI x2)]) rfl (by decide) rfl ?_
    refine jw_iinc (pc' := 27) (y := x2 + (1 : Int32)) (ls' := [some (vR 4 r0), some (vI (x1 + (jfi h 46 (jar h (jfr h 40 r0) (ixn x2))))), some (vI (x2 + (1 : Int32)))]) rfl (by decide) rfl rfl rfl ?_
    refine jw_goto (pc' := 4) rfl rfl ?_
    exact hK4 _ _ _ _ w
def L_X4_rows_4 (D : JD) (d : Nat) (Q : JO → JH → Prop) : Nat → Nat → Int32 → Int32 → JH → Prop
  | 0 => fun _ _ _ _ => False
  | n + 1 => fun r0 x1 x2 h => W_X4_rows_4 D d Q (L_X4_rows_4 D d Q n) r0 x1 x2 h
theorem l_X4_rows_4 {D : JD} {d : Nat} {Q : JO → JH → Prop} : ∀ (n : Nat) (r0 : Nat) (x1 : Int32) (x2 : Int32) (h : JH), L_X4_rows_4 D d Q n r0 x1 x2 h → JW D (d + 1) mX4_rows 4 [some (vR 4 r0), some (vI x1), some (vI x2)] [] h Q := by
  intro n
  induction n with
  | zero => intro _ _ _ _ w; exact w.elim
  | succ n ih => intro _ _ _ h w; exact w_X4_rows_4 ih w
def W_X4_rows_0 (D : JD) (d : Nat) (Q : JO → JH → Prop) (r0 : Nat) (h : JH) : Prop :=
  ∃ n, L_X4_rows_4 D d Q n r0 (0 : Int32) (0 : Int32) h
theorem w_X4_rows_0 {D : JD} {d : Nat} {Q : JO → JH → Prop} {r0 : Nat} {h : JH} (w : W_X4_rows_0 D d Q r0 h) : JW D (d + 1) mX4_rows 0 [some (vR 4 r0), none, none] [] h Q := by
  unfold W_X4_rows_0 at w
  refine jw_iconst (pc' := 1) (x := (0 : Int32)) rfl rfl ?_
  refine jw_istore_n (pc' := 2) (ls' := [some (vR 4 r0), some (vI (0 : Int32)), none]) rfl (by decide) rfl ?_
  refine jw_iconst (pc' := 3) (x := (0 : Int32)) rfl rfl ?_
  refine jw_istore_n (pc' := 4) (ls' := [some (vR 4 r0), some (vI (0 : Int32)), some (vI (0 : Int32))]) rfl (by decide) rfl ?_
  obtain ⟨n, w⟩ := w
  exact l_X4_rows_4 n _ _ _ _ w
def T_X4_rows (D : JD) (d : Nat) (Q : JO → JH → Prop) (r0 : Nat) (h : JH) : Prop := W_X4_rows_0 D d Q r0 h
theorem t_X4_rows {D : JD} {d : Nat} {Q : JO → JH → Prop} {r0 : Nat} {h : JH} (w : T_X4_rows D d Q r0 h) : cX4_rows D (d + 1) r0 h Q := by
  unfold T_X4_rows at w
  unfold cX4_rows
  exact w_X4_rows_0 w
def W_X40_init_0 (D : JD) (d : Nat) (Q : JO → JH → Prop) (r0 : Nat) (x1 : Int32) (h : JH) : Prop :=
  r0 ≠ 0 ∧ (cX20_init D d r0 h (pV D h (fun h_2 => ∀ (r_5 : Nat) (h_6 : JH), r_5 = jsz h_2 + 1 → h_6 = nwa h_2 152 12 → (∀ h_9 : JH, h_9 = wfr h_6 142 r0 r_5 → (∀ (r_11 : Nat) (h_12 : JH), r_11 = jsz h_9 + 1 → h_12 = nwa h_9 153 3 → (∀ h_15 : JH, h_15 = wfr h_12 144 r0 r_11 → (∀ (r_17 : Nat) (h_18 : JH), r_17 = jsz h_15 + 1 → h_18 = nwa h_15 154 8 → (∀ h_21 : JH, h_21 = wfr h_18 147 r0 r_17 → (∀ (r_23 : Nat) (h_24 : JH), r_23 = jsz h_21 + 1 → h_24 = nwa h_21 155 8 → (∀ h_27 : JH, h_27 = wfr h_24 150 r0 r_23 → (∀ (r_29 : Nat) (h_30 : JH), r_29 = jsz h_27 + 1 → h_30 = nwa h_27 156 8 → (∀ h_33 : JH, h_33 = wfr h_30 151 r0 r_29 → (∀ (r_35 : Nat) (h_36 : JH), r_35 = jsz h_33 + 1 → h_36 = nwa h_33 157 8 → (∀ h_39 : JH, h_39 = wfr h_36 152 r0 r_35 → (∀ h_41 : JH, h_41 = wfl h_39 154 r0 (9007199254740991 : Int64) → (∀ (r_43 : Nat) (h_44 : JH), r_43 = jsz h_41 + 1 → h_44 = nwa h_41 158 16 → (∀ h_47 : JH, h_47 = wfr h_44 156 r0 r_43 → (∀ (r_49 : Nat) (h_50 : JH), r_49 = jsz h_47 + 1 → h_50 = nwa h_47 159 16 → (∀ h_53 : JH, h_53 = wfr h_50 157 r0 r_49 → (∀ (r_55 : Nat) (h_56 : JH), r_55 = jsz h_53 + 1 → h_56 = nwa h_53 160 16 → (∀ h_59 : JH, h_59 = wfr h_56 158 r0 r_55 → (jbo x1 ∧ ∀ h_62 : JH, h_62 = wfi h_59 141 r0 x1 → (Q (.inl none) h_62))))))))))))))))))))) (jth Q)))
theorem w_X40_init_0 {D : JD} {d : Nat} {Q : JO → JH → Prop} {r0 : Nat} {x1 : Int32} {h : JH} (w : W_X40_init_0 D d Q r0 x1 h) : JW D (d + 1) mX40_init 0 [some (vR 33 r0), some (vI x1)] [] h Q := by
  unfold W_X40_init_0 at w
  refine jw_aload_n (pc' := 1) rfl rfl ?_
  obtain ⟨g_1, w⟩ := w
  refine jw_cV (st := []) (sa := [vR 33 r0]) okX20_init rfl rfl rfl rfl rfl rfl (jstp_init (sa := []) (st := []) rfl rfl sX20_init okX20_init (lw_g (jtb_mem (c := 6) (i := 188) rfl) rfl) g_1 rfl rfl) w (fun h_2 _ _ w => ?_)
  refine jw_aload_n (pc' := 5) rfl rfl ?_
  refine jw_bipush (pc' := 7) (x := (12 : Int32)) rfl rfl ?_
  refine jw_anew' (pc' := 10) (n := 12) (k := 152) rfl rfl rfl rfl rfl rfl rfl (jtb_mem (c := 9) (i := 67) rfl) ⟨by decide, rfl⟩ rfl (fun r_5 h_6 e_7 e_8 => ?_)
  replace w := w r_5 h_6 e_7 e_8
  refine jw_putR' (pc' := 13) (F := 142) rfl rfl rfl (Or.inr rfl) (Or.inr ⟨rfl, rfl⟩) rfl rfl rfl g_1 (fun h_9 e_10 => ?_)
  replace w := w h_9 e_10
  refine jw_aload_n (pc' := 14) rfl rfl ?_
  refine jw_iconst (pc' := 15) (x := (3 : Int32)) rfl rfl ?_
  refine jw_anew' (pc' := 18) (n := 3) (k := 153) rfl rfl rfl rfl rfl rfl rfl (jtb_mem (c := 1) (i := 174) rfl) ⟨by decide, rfl⟩ rfl (fun r_11 h_12 e_13 e_14 => ?_)
  replace w := w r_11 h_12 e_13 e_14
  refine jw_putR' (pc' := 21) (F := 144) rfl rfl rfl (Or.inr rfl) (Or.inr ⟨rfl, rfl⟩) rfl rfl rfl g_1 (fun h_15 e_16 => ?_)
  replace w := w h_15 e_16
  refine jw_aload_n (pc' := 22) rfl rfl ?_
  refine jw_bipush (pc' := 24) (x := (8 : Int32)) rfl rfl ?_
  refine jw_anew' (pc' := 27) (n := 8) (k := 154) rfl rfl rfl rfl rfl rfl rfl (jtb_mem (c := 1) (i := 180) rfl) ⟨by decide, rfl⟩ rfl (fun r_17 h_18 e_19 e_20 => ?_)
  replace w := w r_17 h_18 e_19 e_20
  refine jw_putR' (pc' := 30) (F := 147) rfl rfl rfl (Or.inr rfl) (Or.inr ⟨rfl, rfl⟩) rfl rfl rfl g_1 (fun h_21 e_22 => ?_)
  replace w := w h_21 e_22
  refine jw_aload_n (pc' := 31) rfl rfl ?_
  refine jw_bipush (pc' := 33) (x := (8 : Int32)) rfl rfl ?_
  refine jw_anew' (pc' := 36) (n := 8) (k := 155) rfl rfl rfl rfl rfl rfl rfl (jtb_mem (c := 1) (i := 180) rfl) ⟨by decide, rfl⟩ rfl (fun r_23 h_24 e_25 e_26 => ?_)
  replace w := w r_23 h_24 e_25 e_26
  refine jw_putR' (pc' := 39) (F := 150) rfl rfl rfl (Or.inr rfl) (Or.inr ⟨rfl, rfl⟩) rfl rfl rfl g_1 (fun h_27 e_28 => ?_)
  replace w := w h_27 e_28
  refine jw_aload_n (pc' := 40) rfl rfl ?_
  refine jw_bipush (pc' := 42) (x := (8 : Int32)) rfl rfl ?_
  refine jw_newa' (pc' := 44) (n := 8) (k := 156) rfl rfl rfl rfl rfl rfl (lw_g (jtb_mem (c := 9) (i := 151) rfl) rfl) ⟨by decide, rfl⟩ (by decide) (fun r_29 h_30 e_31 e_32 => ?_)
  replace w := w r_29 h_30 e_31 e_32
  refine jw_putR' (pc' := 47) (F := 151) rfl rfl rfl (Or.inr rfl) (Or.inr ⟨rfl, rfl⟩) rfl rfl rfl g_1 (fun h_33 e_34 => ?_)
  replace w := w h_33 e_34
  refine jw_aload_n (pc' := 48) rfl rfl ?_
  refine jw_bipush (pc' := 50) (x := (8 : Int32)) rfl rfl ?_
  refine jw_newa' (pc' := 52) (n := 8) (k := 157) rfl rfl rfl rfl rfl rfl (lw_g (jtb_mem (c := 2) (i := 11) rfl) rfl) ⟨by decide, rfl⟩ (by decide) (fun r_35 h_36 e_37 e_38 => ?_)
  replace w := w r_35 h_36 e_37 e_38
  refine jw_putR' (pc' := 55) (F := 152) rfl rfl rfl (Or.inr rfl) (Or.inr ⟨rfl, rfl⟩) rfl rfl rfl g_1 (fun h_39 e_40 => ?_)
  replace w := w h_39 e_40
  refine jw_aload_n (pc' := 56) rfl rfl ?_
  refine jw_ldc2 (pc' := 59) (v := (9007199254740991 : Int64)) rfl rfl ?_
  refine jw_putL' (pc' := 62) (F := 154) rfl rfl rfl (Or.inr rfl) (Or.inl rfl) rfl rfl rfl g_1 (fun h_41 e_42 => ?_)
  replace w := w h_41 e_42
  refine jw_aload_n (pc' := 63) rfl rfl ?_
  refine jw_bipush (pc' := 65) (x := (16 : Int32)) rfl rfl ?_
  refine jw_anew' (pc' := 68) (n := 16) (k := 158) rfl rfl rfl rfl rfl rfl rfl (jtb_mem (c := 1) (i := 180) rfl) ⟨by decide, rfl⟩ rfl (fun r_43 h_44 e_45 e_46 => ?_)
  replace w := w r_43 h_44 e_45 e_46
  refine jw_putR' (pc' := 71) (F := 156) rfl rfl rfl (Or.inr rfl) (Or.inr ⟨rfl, rfl⟩) rfl rfl rfl g_1 (fun h_47 e_48 => ?_)
  replace w := w h_47 e_48
  refine jw_aload_n (pc' := 72) rfl rfl ?_
  refine jw_bipush (pc' := 74) (x := (16 : Int32)) rfl rfl ?_
  refine jw_anew' (pc' := 77) (n := 16) (k := 159) rfl rfl rfl rfl rfl rfl rfl (jtb_mem (c := 9) (i := 72) rfl) ⟨by decide, rfl⟩ rfl (fun r_49 h_50 e_51 e_52 => ?_)
  replace w := w r_49 h_50 e_51 e_52
  refine jw_putR' (pc' := 80) (F := 157) rfl rfl rfl (Or.inr rfl) (Or.inr ⟨rfl, rfl⟩) rfl rfl rfl g_1 (fun h_53 e_54 => ?_)
  replace w := w h_53 e_54
  refine jw_aload_n (pc' := 81) rfl rfl ?_
  refine jw_bipush (pc' := 83) (x := (16 : Int32)) rfl rfl ?_
  refine jw_anew' (pc' := 86) (n := 16) (k := 160) rfl rfl rfl rfl rfl rfl rfl (jtb_mem (c := 6) (i := 222) rfl) ⟨by decide, rfl⟩ rfl (fun r_55 h_56 e_57 e_58 => ?_)
  replace w := w r_55 h_56 e_57 e_58
  refine jw_putR' (pc' := 89) (F := 158) rfl rfl rfl (Or.inr rfl) (Or.inr ⟨rfl, rfl⟩) rfl rfl rfl g_1 (fun h_59 e_60 => ?_)
  replace w := w h_59 e_60
  refine jw_aload_n (pc' := 90) rfl rfl ?_
  refine jw_iload_n (pc' := 91) rfl rfl ?_
  obtain ⟨g_61, w⟩ := w
  refine jw_putI' (pc' := 94) (F := 141) rfl rfl rfl (Or.inr rfl) (Or.inr ⟨rfl, rfl⟩) rfl (g_61.nr) (g_61.ft) rfl g_1 (fun h_62 e_63 => ?_)
  replace w := w h_62 e_63
  exact jw_return rfl rfl w
def T_X40_init (D : JD) (d : Nat) (Q : JO → JH → Prop) (r0 : Nat) (x1 : Int32) (h : JH) : Prop := W_X40_init_0 D d Q r0 x1 h
theorem t_X40_init {D : JD} {d : Nat} {Q : JO → JH → Prop} {r0 : Nat} {x1 : Int32} {h : JH} (w : T_X40_init D d Q r0 x1 h) : cX40_init D (d + 1) r0 x1 h Q := by
  unfold T_X40_init at w
  unfold cX40_init
  exact w_X40_init_0 w
def W_X40_check_363 (D : JD) (d : Nat) (Q : JO → JH → Prop) (K363 : Nat → Nat → Int32 → JH → Prop) (r0 : Nat) (r2 : Nat) (x3 : Int32) (h : JH) : Prop :=
  r0 ≠ 0 ∧ (((jfi h 153 r0) ≤ x3 → Q (.inl none) h) ∧ (¬ (jfi h 153 r0) ≤ x3 → cX40_order D d r0 x3 r2 h (pV D h (fun h_3 => K363 r0 r2 (x3 + (1 : Int32)) h_3) (jth Q))))
theorem w_X40_check_363 {D : JD} {d : Nat} {Q : JO → JH → Prop} {K363 : Nat → Nat → Int32 → JH → Prop} {r0 : Nat} {r2 : Nat} {x3 : Int32} {h : JH} (hK363 : ∀ (r0 : Nat) (r2 : Nat) (x3 : Int32) (h : JH), K363 r0 r2 x3 h → JW D (d + 1) mX40_check 363 [some (vR 33 r0), none, some (vR 6 r2), some (vI x3), none] [] h Q) (w : W_X40_check_363 D d Q K363 r0 r2 x3 h) : JW D (d + 1) mX40_check 363 [some (vR 33 r0), none, some (vR 6 r2), some (vI x3), none] [] h Q := by
  unfold W_X40_check_363 at w
  refine jw_iload_n (pc' := 364) rfl rfl ?_
  refine jw_aload_n (pc' := 365) rfl rfl ?_
  obtain ⟨g_1, w⟩ := w
  refine jw_getI (pc' := 368) (F := 153) rfl rfl rfl rfl g_1 ?_
  refine jw_icmp_ge (tgt := 383) (pc' := 371) rfl rfl (fun c_2 => ?_) (fun c_2 => ?_)
  · replace w := w.1 c_2
    exact jw_return rfl rfl w
  · replace w := w.2 c_2
    refine jw_aload_n (pc' := 372) rfl rfl ?_
    refine jw_iload_n (pc' := 373) rfl rfl ?_
    refine jw_aload_n (pc' := 374) rfl rfl ?_
    refine jw_cV (st := []) (sa := [vR 33 r0, vI x3, vR 6 r2]) okX40_order rfl rfl rfl rfl rfl rfl (jstp_virtual (sa := [vI x3, vR 6 r2]) (st := []) (k := 0) rfl rfl sX40_order okX40_order g_1 (one33.k g_1) rfl rfl) w (fun h_3 _ _ w => ?_)
    refine jw_iinc (pc' := 380) (y := x3 + (1 : Int32)) (ls' := [some (vR 33 r0), none, some (vR 6 r2), some (vI (x3 + (1 : Int32))), none]) rfl (by decide) rfl rfl rfl ?_
    refine jw_goto (pc' := 363) rfl rfl ?_
    exact hK363 _ _ _ _ w
def L_X40_check_363 (D : JD) (d : Nat) (Q : JO → JH → Prop) : Nat → Nat → Nat → Int32 → JH → Prop
  | 0 => fun _ _ _ _ => False
  | n + 1 => fun r0 r2 x3 h => W_X40_check_363 D d Q (L_X40_check_363 D d Q n) r0 r2 x3 h
theorem l_X40_check_363 {D : JD} {d : Nat} {Q : JO → JH → Prop} : ∀ (n : Nat) (r0 : Nat) (r2 : Nat) (x3 : Int32) (h : JH), L_X40_check_363 D d Q n r0 r2 x3 h → JW D (d + 1) mX40_check 363 [some (vR 33 r0), none, some (vR 6 r2), some (vI x3), none] [] h Q := by
  intro n
  induction n with
  | zero => intro _ _ _ _ w; exact w.elim
  | succ n ih => intro _ _ _ h w; exact w_X40_check_363 ih w
def W_X40_check_336 (D : JD) (d : Nat) (Q : JO → JH → Prop) (K336 : Nat → Nat → Int32 → JH → Prop) (r0 : Nat) (r2 : Nat) (x3 : Int32) (h : JH) : Prop :=
  r0 ≠ 0 ∧ (((jfi h 143 r0) ≤ x3 → ∃ n, L_X40_check_363 D d Q n r0 r2 (0 : Int32) h) ∧ (¬ (jfi h 143 r0) ≤ x3 → (jfr h 142 r0) ≠ 0 ∧ jin x3 (jln h (jfr h 142 r0)) ∧ (cX40_column D d r0 (jar h (jfr h 142 r0) (ixn x3)) r2 h (pV D h (fun h_5 => K336 r0 r2 (x3 + (1 : Int32)) h_5) (jth Q)))))
theorem w_X40_check_336 {D : JD} {d : Nat} {Q : JO → JH → Prop} {K336 : Nat → Nat → Int32 → JH → Prop} {r0 : Nat} {r2 : Nat} {x3 : Int32} {h : JH} (hK336 : ∀ (r0 : Nat) (r2 : Nat) (x3 : Int32) (h : JH), K336 r0 r2 x3 h → JW D (d + 1) mX40_check 336 [some (vR 33 r0), none, some (vR 6 r2), some (vI x3), none] [] h Q) (w : W_X40_check_336 D d Q K336 r0 r2 x3 h) : JW D (d + 1) mX40_check 336 [some (vR 33 r0), none, some (vR 6 r2), some (vI x3), none] [] h Q := by
  unfold W_X40_check_336 at w
  refine jw_iload_n (pc' := 337) rfl rfl ?_
  refine jw_aload_n (pc' := 338) rfl rfl ?_
  obtain ⟨g_1, w⟩ := w
  refine jw_getI (pc' := 341) (F := 143) rfl rfl rfl rfl g_1 ?_
  refine jw_icmp_ge (tgt := 361) (pc' := 344) rfl rfl (fun c_2 => ?_) (fun c_2 => ?_)
  · replace w := w.1 c_2
    refine jw_iconst (pc' := 362) (x := (0 : Int32)) rfl rfl ?_
    refine jw_istore_n (pc' := 363) (ls' := [some (vR 33 r0), none, some (vR 6 r2), some (vI (0 : Int32)), none]) rfl (by decide) rfl ?_
    obtain ⟨n, w⟩ := w
    exact l_X40_check_363 n _ _ _ _ w
  · replace w := w.2 c_2
    refine jw_aload_n (pc' := 345) rfl rfl ?_
    refine jw_aload_n (pc' := 346) rfl rfl ?_
    refine jw_getR (pc' := 349) (F := 142) (t' := 152) rfl rfl rfl rfl rfl g_1 ?_
    refine jw_iload_n (pc' := 350) rfl rfl ?_
    obtain ⟨g_3, w⟩ := w
    obtain ⟨g_4, w⟩ := w
    refine jw_aald (pc' := 351) (t' := 34) rfl rfl rfl rfl g_3 g_4.ix g_4.2 ?_
    refine jw_aload_n (pc' := 352) rfl rfl ?_
    refine jw_cV (st := []) (sa := [vR 33 r0, vR 34 (jar h (jfr h 142 r0) (ixn x3)), vR 6 r2]) okX40_column rfl rfl rfl rfl rfl rfl (jstp_virtual (sa := [vR 34 (jar h (jfr h 142 r0) (ixn x3)), vR 6 r2]) (st := []) (k := 0) rfl rfl sX40_column okX40_column g_1 (one33.k g_1) rfl rfl) w (fun h_5 _ _ w => ?_)
    refine jw_iinc (pc' := 358) (y := x3 + (1 : Int32)) (ls' := [some (vR 33 r0), none, some (vR 6 r2), some (vI (x3 + (1 : Int32))), none]) rfl (by decide) rfl rfl rfl ?_
    refine jw_goto (pc' := 336) rfl rfl ?_
    exact hK336 _ _ _ _ w
def L_X40_check_336 (D : JD) (d : Nat) (Q : JO → JH → Prop) : Nat → Nat → Nat → Int32 → JH → Prop
  | 0 => fun _ _ _ _ => False
  | n + 1 => fun r0 r2 x3 h => W_X40_check_336 D d Q (L_X40_check_336 D d Q n) r0 r2 x3 h
theorem l_X40_check_336 {D : JD} {d : Nat} {Q : JO → JH → Prop} : ∀ (n : Nat) (r0 : Nat) (r2 : Nat) (x3 : Int32) (h : JH), L_X40_check_336 D d Q n r0 r2 x3 h → JW D (d + 1) mX40_check 336 [some (vR 33 r0), none, some (vR 6 r2), some (vI x3), none] [] h Q := by
  intro n
  induction n with
  | zero => intro _ _ _ _ w; exact w.elim
  | succ n ih => intro _ _ _ h w; exact w_X40_check_336 ih w
def W_X40_check_329 (D : JD) (d : Nat) (Q : JO → JH → Prop) (r0 : Nat) (r2 : Nat) (h : JH) : Prop :=
  r0 ≠ 0 ∧ ∀ h_2 : JH, h_2 = wfi h 159 r0 (0 : Int32) → (∃ n, L_X40_check_336 D d Q n r0 r2 (0 : Int32) h_2)
theorem w_X40_check_329 {D : JD} {d : Nat} {Q : JO → JH → Prop} {r0 : Nat} {r2 : Nat} {h : JH} (w : W_X40_check_329 D d Q r0 r2 h) : JW D (d + 1) mX40_check 329 [some (vR 33 r0), none, some (vR 6 r2), none, none] [] h Q := by
  unfold W_X40_check_329 at w
  refine jw_aload_n (pc' := 330) rfl rfl ?_
  refine jw_iconst (pc' := 331) (x := (0 : Int32)) rfl rfl ?_
  obtain ⟨g_1, w⟩ := w
  refine jw_putI' (pc' := 334) (F := 159) rfl rfl rfl (Or.inr rfl) (Or.inl rfl) rfl (rfl) (rfl) rfl g_1 (fun h_2 e_3 => ?_)
  replace w := w h_2 e_3
  refine jw_iconst (pc' := 335) (x := (0 : Int32)) rfl rfl ?_
  refine jw_istore_n (pc' := 336) (ls' := [some (vR 33 r0), none, some (vR 6 r2), some (vI (0 : Int32)), none]) rfl (by decide) rfl ?_
  obtain ⟨n, w⟩ := w
  exact l_X40_check_336 n _ _ _ _ w
def W_X40_check_276 (D : JD) (d : Nat) (Q : JO → JH → Prop) (K243 : Nat → Nat → Int32 → JH → Prop) (r0 : Nat) (r2 : Nat) (x3 : Int32) (q0 : Nat) (s1 : Int32) (h : JH) : Prop :=
  q0 ≠ 0 ∧ jbo s1 ∧ ∀ h_3 : JH, h_3 = wfi h 160 q0 s1 → (K243 r0 r2 (x3 + (1 : Int32)) h_3)
theorem w_X40_check_276 {D : JD} {d : Nat} {Q : JO → JH → Prop} {K243 : Nat → Nat → Int32 → JH → Prop} {r0 : Nat} {r2 : Nat} {x3 : Int32} {q0 : Nat} {s1 : Int32} {h : JH} (hK243 : ∀ (r0 : Nat) (r2 : Nat) (x3 : Int32) (h : JH), K243 r0 r2 x3 h → JW D (d + 1) mX40_check 243 [some (vR 33 r0), none, some (vR 6 r2), some (vI x3), none] [] h Q) (w : W_X40_check_276 D d Q K243 r0 r2 x3 q0 s1 h) : JW D (d + 1) mX40_check 276 [some (vR 33 r0), none, some (vR 6 r2), some (vI x3), none] [vI s1, vR 33 q0] h Q := by
  unfold W_X40_check_276 at w
  obtain ⟨g_1, w⟩ := w
  obtain ⟨g_2, w⟩ := w
  refine jw_putI' (pc' := 279) (F := 160) rfl rfl rfl (Or.inr rfl) (Or.inl rfl) rfl (g_2.nr) (g_2.ft) rfl g_1 (fun h_3 e_4 => ?_)
  replace w := w h_3 e_4
  refine jw_iinc (pc' := 282) (y := x3 + (1 : Int32)) (ls' := [some (vR 33 r0), none, some (vR 6 r2), some (vI (x3 + (1 : Int32))), none]) rfl (by decide) rfl rfl rfl ?_
  refine jw_goto (pc' := 243) rfl rfl ?_
  exact hK243 _ _ _ _ w
def W_X40_check_271 (D : JD) (d : Nat) (Q : JO → JH → Prop) (K243 : Nat → Nat → Int32 → JH → Prop) (r0 : Nat) (r2 : Nat) (x3 : Int32) (q0 : Nat) (h : JH) : Prop :=
  W_X40_check_276 D d Q K243 r0 r2 x3 q0 (1 : Int32) h
theorem w_X40_check_271 {D : JD} {d : Nat} {Q : JO → JH → Prop} {K243 : Nat → Nat → Int32 → JH → Prop} {r0 : Nat} {r2 : Nat} {x3 : Int32} {q0 : Nat} {h : JH} (hK243 : ∀ (r0 : Nat) (r2 : Nat) (x3 : Int32) (h : JH), K243 r0 r2 x3 h → JW D (d + 1) mX40_check 243 [some (vR 33 r0), none, some (vR 6 r2), some (vI x3), none] [] h Q) (w : W_X40_check_271 D d Q K243 r0 r2 x3 q0 h) : JW D (d + 1) mX40_check 271 [some (vR 33 r0), none, some (vR 6 r2), some (vI x3), none] [vR 33 q0] h Q := by
  unfold W_X40_check_271 at w
  refine jw_iconst (pc' := 272) (x := (1 : Int32)) rfl rfl ?_
  refine jw_goto (pc' := 276) rfl rfl ?_
  exact w_X40_check_276 hK243 w
def W_X40_check_268 (D : JD) (d : Nat) (Q : JO → JH → Prop) (K243 : Nat → Nat → Int32 → JH → Prop) (r0 : Nat) (r2 : Nat) (x3 : Int32) (q0 : Nat) (s1 : Int32) (h : JH) : Prop :=
  (s1 = 0 → W_X40_check_276 D d Q K243 r0 r2 x3 q0 (0 : Int32) h) ∧ (¬ s1 = 0 → W_X40_check_271 D d Q K243 r0 r2 x3 q0 h)
theorem w_X40_check_268 {D : JD} {d : Nat} {Q : JO → JH → Prop} {K243 : Nat → Nat → Int32 → JH → Prop} {r0 : Nat} {r2 : Nat} {x3 : Int32} {q0 : Nat} {s1 : Int32} {h : JH} (hK243 : ∀ (r0 : Nat) (r2 : Nat) (x3 : Int32) (h : JH), K243 r0 r2 x3 h → JW D (d + 1) mX40_check 243 [some (vR 33 r0), none, some (vR 6 r2), some (vI x3), none] [] h Q) (w : W_X40_check_268 D d Q K243 r0 r2 x3 q0 s1 h) : JW D (d + 1) mX40_check 268 [some (vR 33 r0), none, some (vR 6 r2), some (vI x3), none] [vI s1, vR 33 q0] h Q := by
  unfold W_X40_check_268 at w
  refine jw_if_eq (tgt := 275) (pc' := 271) rfl rfl (fun c_1 => ?_) (fun c_1 => ?_)
  · replace w := w.1 c_1
    refine jw_iconst (pc' := 276) (x := (0 : Int32)) rfl rfl ?_
    exact w_X40_check_276 hK243 w
  · replace w := w.2 c_1
    exact w_X40_check_271 hK243 w
def W_X40_check_243 (D : JD) (d : Nat) (Q : JO → JH → Prop) (K243 : Nat → Nat → Int32 → JH → Prop) (r0 : Nat) (r2 : Nat) (x3 : Int32) (h : JH) : Prop :=
  r0 ≠ 0 ∧ (((jfi h 153 r0) ≤ x3 → r2 ≠ 0 ∧ ∀ h_4 : JH, h_4 = wfi h 51 r2 (1 : Int32) → (∀ h_6 : JH, h_6 = wfr h_4 53 r2 (jfr h_4 147 r0) → (∀ h_8 : JH, h_8 = wfi h_6 54 r2 (jfi h_6 148 r0) → (cX20_truth D d (jfr h_8 149 r0) r2 h_8 (pV D h_8 (fun h_10 => ((jfr h_10 149 r0) = 0 → W_X40_check_329 D d Q r0 r2 h_10) ∧ ((jfr h_10 149 r0) ≠ 0 → cX24_grouped D d (jfr h_10 149 r0) r2 h_10 (pV D h_10 (fun h_14 => W_X40_check_329 D d Q r0 r2 h_14) (jth Q)))) (jth Q)))))) ∧ (¬ (jfi h 153 r0) ≤ x3 → (¬ (jfi h 160 r0) = 0 → W_X40_check_271 D d Q K243 r0 r2 x3 r0 h) ∧ ((jfi h 160 r0) = 0 → (jfr h 150 r0) ≠ 0 ∧ jin x3 (jln h (jfr h 150 r0)) ∧ ((jar h (jfr h 150 r0) (ixn x3)) ≠ 0 ∧ (v55_aggregates D d (jar h (jfr h 150 r0) (ixn x3)) h (pI D h (fun v_24 h_22 => W_X40_check_268 D d Q K243 r0 r2 x3 r0 v_24 h_22) (jth Q)))))))
theorem w_X40_check_243 {D : JD} {d : Nat} {Q : JO → JH → Prop} {K243 : Nat → Nat → Int32 → JH → Prop} {r0 : Nat} {r2 : Nat} {x3 : Int32} {h : JH} (hK243 : ∀ (r0 : Nat) (r2 : Nat) (x3 : Int32) (h : JH), K243 r0 r2 x3 h → JW D (d + 1) mX40_check 243 [some (vR 33 r0), none, some (vR 6 r2), some (vI x3), none] [] h Q) (w : W_X40_check_243 D d Q K243 r0 r2 x3 h) : JW D (d + 1) mX40_check 243 [some (vR 33 r0), none, some (vR 6 r2), some (vI x3), none] [] h Q := by
  unfold W_X40_check_243 at w
  refine jw_iload_n (pc' := 244) rfl rfl ?_
  refine jw_aload_n (pc' := 245) rfl rfl ?_
  obtain ⟨g_1, w⟩ := w
  refine jw_getI (pc' := 248) (F := 153) rfl rfl rfl rfl g_1 ?_
  refine jw_icmp_ge (tgt := 285) (pc' := 251) rfl rfl (fun c_2 => ?_) (fun c_2 => ?_)
  · replace w := w.1 c_2
    refine jw_aload_n (pc' := 286) rfl rfl ?_
    refine jw_iconst (pc' := 287) (x := (1 : Int32)) rfl rfl ?_
    obtain ⟨g_3, w⟩ := w
    refine jw_putI' (pc' := 290) (F := 51) rfl rfl rfl (Or.inr rfl) (Or.inl rfl) rfl (rfl) (rfl) rfl g_3 (fun h_4 e_5 => ?_)
    replace w := w h_4 e_5
    refine jw_aload_n (pc' := 291) rfl rfl ?_
    refine jw_aload_n (pc' := 292) rfl rfl ?_
    refine jw_getR (pc' := 295) (F := 147) (t' := 154) rfl rfl rfl rfl rfl g_1 ?_
    refine jw_putR' (pc' := 298) (F := 53) rfl rfl rfl (Or.inr rfl) (Or.inl rfl) rfl rfl rfl g_3 (fun h_6 e_7 => ?_)
    replace w := w h_6 e_7
    refine jw_aload_n (pc' := 299) rfl rfl ?_
    refine jw_aload_n (pc' := 300) rfl rfl ?_
    refine jw_getI (pc' := 303) (F := 148) rfl rfl rfl rfl g_1 ?_
    refine jw_putI' (pc' := 306) (F := 54) rfl rfl rfl (Or.inr rfl) (Or.inl rfl) rfl (rfl) (rfl) rfl g_3 (fun h_8 e_9 => ?_)
    replace w := w h_8 e_9
    refine jw_aload_n (pc' := 307) rfl rfl ?_
    refine jw_getR (pc' := 310) (F := 149) (t' := 55) rfl rfl rfl rfl rfl g_1 ?_
    refine jw_aload_n (pc' := 311) rfl rfl ?_
    refine jw_cV (st := []) (sa := [vR 55 (jfr h_8 149 r0), vR 6 r2]) okX20_truth rfl rfl rfl rfl rfl rfl (jstp_staticUp (sa := [vR 55 (jfr h_8 149 r0), vR 6 r2]) (st := []) rfl (lw_g (jtb_mem (c := 10) (i := 188) rfl) rfl) (lw_g (jtb_mem (c := 10) (i := 189) rfl) rfl) rfl sX20_truth okX20_truth rfl rfl) w (fun h_10 _ _ w => ?_)
    refine jw_aload_n (pc' := 315) rfl rfl ?_
    refine jw_getR (pc' := 318) (F := 149) (t' := 55) rfl rfl rfl rfl rfl g_1 ?_
    refine jw_ifnull (tgt := 329) (pc' := 321) rfl rfl (fun c_13 => ?_) (fun c_13 => ?_)
    · replace w := w.1 c_13
      refine jw_gen (ls' := [some (vR 33 r0), none, some (vR 6 r2), none, none]) (st' := []) (And.intro (Or.inl rfl) (And.intro (Or.inl rfl) (trivial))) (trivial) ?_
      exact w_X40_check_329 w
    · replace w := w.2 c_13
      refine jw_aload_n (pc' := 322) rfl rfl ?_
      refine jw_getR (pc' := 325) (F := 149) (t' := 55) rfl rfl rfl rfl rfl g_1 ?_
      refine jw_aload_n (pc' := 326) rfl rfl ?_
      refine JW.inv (fun hI => JW.oks (fun ho => ?_))
      have hkd := und55.k hI (ho (vR 55 (jfr h_10 149 r0)) (by simp)) c_13
      simp only [List.mem_cons, List.not_mem_nil, or_false] at hkd
      clear ho hI
      rcases hkd with e_17 | e_17 | e_17 | e_17 | e_17 | e_17 | e_17 | e_17 | e_17 | e_17
      · refine jw_cV (st := []) (sa := [vR 55 (jfr h_10 149 r0), vR 6 r2]) okX24_grouped rfl rfl rfl rfl rfl rfl (jstp_up (sa := [vR 6 r2]) (st := []) rfl (lw_g (jtb_mem (c := 11) (i := 13) rfl) rfl) um88 okX24_grouped c_13 (fun _ _ => by rw [e_17]; exact ⟨rfl, rfl⟩) rfl rfl) w (fun h_14 _ _ w => ?_)
        refine jw_gen (ls' := [some (vR 33 r0), none, some (vR 6 r2), none, none]) (st' := []) (And.intro (Or.inl rfl) (And.intro (Or.inl rfl) (trivial))) (trivial) ?_
        exact w_X40_check_329 w
      · refine jw_cV (st := []) (sa := [vR 55 (jfr h_10 149 r0), vR 6 r2]) okX24_grouped rfl rfl rfl rfl rfl rfl (jstp_up (sa := [vR 6 r2]) (st := []) rfl (lw_g (jtb_mem (c := 11) (i := 13) rfl) rfl) um89 okX24_grouped c_13 (fun _ _ => by rw [e_17]; exact ⟨rfl, rfl⟩) rfl rfl) w (fun h_14 _ _ w => ?_)
        refine jw_gen (ls' := [some (vR 33 r0), none, some (vR 6 r2), none, none]) (st' := []) (And.intro (Or.inl rfl) (And.intro (Or.inl rfl) (trivial))) (trivial) ?_
        exact w_X40_check_329 w
      · refine jw_cV (st := []) (sa := [vR 55 (jfr h_10 149 r0), vR 6 r2]) okX24_grouped rfl rfl rfl rfl rfl rfl (jstp_up (sa := [vR 6 r2]) (st := []) rfl (lw_g (jtb_mem (c := 11) (i := 13) rfl) rfl) um90 okX24_grouped c_13 (fun _ _ => by rw [e_17]; exact ⟨rfl, rfl⟩) rfl rfl) w (fun h_14 _ _ w => ?_)
        refine jw_gen (ls' := [some (vR 33 r0), none, some (vR 6 r2), none, none]) (st' := []) (And.intro (Or.inl rfl) (And.intro (Or.inl rfl) (trivial))) (trivial) ?_
        exact w_X40_check_329 w
      · refine jw_cV (st := []) (sa := [vR 55 (jfr h_10 149 r0), vR 6 r2]) okX24_grouped rfl rfl rfl rfl rfl rfl (jstp_up (sa := [vR 6 r2]) (st := []) rfl (lw_g (jtb_mem (c := 11) (i := 13) rfl) rfl) um91 okX24_grouped c_13 (fun _ _ => by rw [e_17]; exact ⟨rfl, rfl⟩) rfl rfl) w (fun h_14 _ _ w => ?_)
        refine jw_gen (ls' := [some (vR 33 r0), none, some (vR 6 r2), none, none]) (st' := []) (And.intro (Or.inl rfl) (And.intro (Or.inl rfl) (trivial))) (trivial) ?_
        exact w_X40_check_329 w
      · refine jw_cV (st := []) (sa := [vR 55 (jfr h_10 149 r0), vR 6 r2]) okX24_grouped rfl rfl rfl rfl rfl rfl (jstp_up (sa := [vR 6 r2]) (st := []) rfl (lw_g (jtb_mem (c := 11) (i := 13) rfl) rfl) um92 okX24_grouped c_13 (fun _ _ => by rw [e_17]; exact ⟨rfl, rfl⟩) rfl rfl) w (fun h_14 _ _ w => ?_)
        refine jw_gen (ls' := [some (vR 33 r0), none, some (vR 6 r2), none, none]) (st' := []) (And.intro (Or.inl rfl) (And.intro (Or.inl rfl) (trivial))) (trivial) ?_
        exact w_X40_check_329 w
      · refine jw_cV (st := []) (sa := [vR 55 (jfr h_10 149 r0), vR 6 r2]) okX24_grouped rfl rfl rfl rfl rfl rfl (jstp_up (sa := [vR 6 r2]) (st := []) rfl (lw_g (jtb_mem (c := 11) (i := 13) rfl) rfl) um93 okX24_grouped c_13 (fun _ _ => by rw [e_17]; exact ⟨rfl, rfl⟩) rfl rfl) w (fun h_14 _ _ w => ?_)
        refine jw_gen (ls' := [some (vR 33 r0), none, some (vR 6 r2), none, none]) (st' := []) (And.intro (Or.inl rfl) (And.intro (Or.inl rfl) (trivial))) (trivial) ?_
        exact w_X40_check_329 w
      · refine jw_cV (st := []) (sa := [vR 55 (jfr h_10 149 r0), vR 6 r2]) okX24_grouped rfl rfl rfl rfl rfl rfl (jstp_up (sa := [vR 6 r2]) (st := []) rfl (lw_g (jtb_mem (c := 11) (i := 13) rfl) rfl) um94 okX24_grouped c_13 (fun _ _ => by rw [e_17]; exact ⟨rfl, rfl⟩) rfl rfl) w (fun h_14 _ _ w => ?_)
        refine jw_gen (ls' := [some (vR 33 r0), none, some (vR 6 r2), none, none]) (st' := []) (And.intro (Or.inl rfl) (And.intro (Or.inl rfl) (trivial))) (trivial) ?_
        exact w_X40_check_329 w
      · refine jw_cV (st := []) (sa := [vR 55 (jfr h_10 149 r0), vR 6 r2]) okX24_grouped rfl rfl rfl rfl rfl rfl (jstp_up (sa := [vR 6 r2]) (st := []) rfl (lw_g (jtb_mem (c := 11) (i := 13) rfl) rfl) um95 okX24_grouped c_13 (fun _ _ => by rw [e_17]; exact ⟨rfl, rfl⟩) rfl rfl) w (fun h_14 _ _ w => ?_)
        refine jw_gen (ls' := [some (vR 33 r0), none, some (vR 6 r2), none, none]) (st' := []) (And.intro (Or.inl rfl) (And.intro (Or.inl rfl) (trivial))) (trivial) ?_
        exact w_X40_check_329 w
      · refine jw_cV (st := []) (sa := [vR 55 (jfr h_10 149 r0), vR 6 r2]) okX24_grouped rfl rfl rfl rfl rfl rfl (jstp_up (sa := [vR 6 r2]) (st := []) rfl (lw_g (jtb_mem (c := 11) (i := 13) rfl) rfl) um96 okX24_grouped c_13 (fun _ _ => by rw [e_17]; exact ⟨rfl, rfl⟩) rfl rfl) w (fun h_14 _ _ w => ?_)
        refine jw_gen (ls' := [some (vR 33 r0), none, some (vR 6 r2), none, none]) (st' := []) (And.intro (Or.inl rfl) (And.intro (Or.inl rfl) (trivial))) (trivial) ?_
        exact w_X40_check_329 w
      · refine jw_cV (st := []) (sa := [vR 55 (jfr h_10 149 r0), vR 6 r2]) okX24_grouped rfl rfl rfl rfl rfl rfl (jstp_up (sa := [vR 6 r2]) (st := []) rfl (lw_g (jtb_mem (c := 11) (i := 13) rfl) rfl) um97 okX24_grouped c_13 (fun _ _ => by rw [e_17]; exact ⟨rfl, rfl⟩) rfl rfl) w (fun h_14 _ _ w => ?_)
        refine jw_gen (ls' := [some (vR 33 r0), none, some (vR 6 r2), none, none]) (st' := []) (And.intro (Or.inl rfl) (And.intro (Or.inl rfl) (trivial))) (trivial) ?_
        exact w_X40_check_329 w
  · replace w := w.2 c_2
    refine jw_aload_n (pc' := 252) rfl rfl ?_
    refine jw_aload_n (pc' := 253) rfl rfl ?_
    refine jw_getI (pc' := 256) (F := 160) rfl rfl rfl rfl g_1 ?_
    refine jw_if_ne (tgt := 271) (pc' := 259) rfl rfl (fun c_18 => ?_) (fun c_18 => ?_)
    · replace w := w.1 c_18
      exact w_X40_check_271 hK243 w
    · replace w := w.2 c_18
      refine jw_aload_n (pc' := 260) rfl rfl ?_
      refine jw_getR (pc' := 263) (F := 150) (t' := 155) rfl rfl rfl rfl rfl g_1 ?_
      refine jw_iload_n (pc' := 264) rfl rfl ?_
      obtain ⟨g_19, w⟩ := w
      obtain ⟨g_20, w⟩ := w
      refine jw_aald (pc' := 265) (t' := 55) rfl rfl rfl rfl g_19 g_20.ix g_20.2 ?_
      obtain ⟨g_21, w⟩ := w
      refine JW.inv (fun hI => JW.oks (fun ho => ?_))
      have hkd := und55.k hI (ho (vR 55 (jar h (jfr h 150 r0) (ixn x3))) (by simp)) g_21
      simp only [List.mem_cons, List.not_mem_nil, or_false] at hkd
      clear ho hI
      rcases hkd with e_25 | e_25 | e_25 | e_25 | e_25 | e_25 | e_25 | e_25 | e_25 | e_25
      · refine jw_cI (st := [vR 33 r0]) (sa := [vR 55 (jar h (jfr h 150 r0) (ixn x3))]) okX24_aggregates rfl rfl rfl rfl rfl rfl (jstp_up (sa := []) (st := [vR 33 r0]) rfl (lw_g (jtb_mem (c := 10) (i := 191) rfl) rfl) um38 okX24_aggregates g_21 (fun _ _ => by rw [e_25]; exact ⟨rfl, rfl⟩) rfl rfl) (w.1 e_25) (fun v_24 h_22 _ _ w => ?_)
        exact w_X40_check_268 hK243 w
      · refine jw_cI (st := [vR 33 r0]) (sa := [vR 55 (jar h (jfr h 150 r0) (ixn x3))]) okX24_aggregates rfl rfl rfl rfl rfl rfl (jstp_up (sa := []) (st := [vR 33 r0]) rfl (lw_g (jtb_mem (c := 10) (i := 191) rfl) rfl) um39 okX24_aggregates g_21 (fun _ _ => by rw [e_25]; exact ⟨rfl, rfl⟩) rfl rfl) (w.2.1 e_25) (fun v_24 h_22 _ _ w => ?_)
        exact w_X40_check_268 hK243 w
      · refine jw_gen (ls' := _) (st' := [vR 22 (jar h (jfr h 150 r0) (ixn x3)), vR 33 r0]) (jgl_rf _ _) (And.intro (Or.inr ⟨_, _, _, rfl, rfl, Or.inr (Or.inr (by rw [e_25]; rfl))⟩) (jgs_rf _ _)) ?_
        refine jw_cI (st := [vR 33 r0]) (sa := [vR 22 (jar h (jfr h 150 r0) (ixn x3))]) okX28_aggregates rfl rfl rfl rfl rfl rfl (jstp_up (sa := []) (st := [vR 33 r0]) rfl (lw_g (jtb_mem (c := 10) (i := 191) rfl) rfl) um40 okX28_aggregates g_21 (fun _ _ => by rw [e_25]; exact ⟨rfl, rfl⟩) rfl rfl) (w.2.2.1 e_25) (fun v_24 h_22 _ _ w => ?_)
        exact w_X40_check_268 hK243 w
      · refine jw_cI (st := [vR 33 r0]) (sa := [vR 55 (jar h (jfr h 150 r0) (ixn x3))]) okX24_aggregates rfl rfl rfl rfl rfl rfl (jstp_up (sa := []) (st := [vR 33 r0]) rfl (lw_g (jtb_mem (c := 10) (i := 191) rfl) rfl) um41 okX24_aggregates g_21 (fun _ _ => by rw [e_25]; exact ⟨rfl, rfl⟩) rfl rfl) (w.2.2.2.1 e_25) (fun v_24 h_22 _ _ w => ?_)
        exact w_X40_check_268 hK243 w
      · refine jw_cI (st := [vR 33 r0]) (sa := [vR 55 (jar h (jfr h 150 r0) (ixn x3))]) okX24_aggregates rfl rfl rfl rfl rfl rfl (jstp_up (sa := []) (st := [vR 33 r0]) rfl (lw_g (jtb_mem (c := 10) (i := 191) rfl) rfl) um42 okX24_aggregates g_21 (fun _ _ => by rw [e_25]; exact ⟨rfl, rfl⟩) rfl rfl) (w.2.2.2.2.1 e_25) (fun v_24 h_22 _ _ w => ?_)
        exact w_X40_check_268 hK243 w
      · refine jw_cI (st := [vR 33 r0]) (sa := [vR 55 (jar h (jfr h 150 r0) (ixn x3))]) okX24_aggregates rfl rfl rfl rfl rfl rfl (jstp_up (sa := []) (st := [vR 33 r0]) rfl (lw_g (jtb_mem (c := 10) (i := 191) rfl) rfl) um43 okX24_aggregates g_21 (fun _ _ => by rw [e_25]; exact ⟨rfl, rfl⟩) rfl rfl) (w.2.2.2.2.2.1 e_25) (fun v_24 h_22 _ _ w => ?_)
        exact w_X40_check_268 hK243 w
      · refine jw_cI (st := [vR 33 r0]) (sa := [vR 55 (jar h (jfr h 150 r0) (ixn x3))]) okX24_aggregates rfl rfl rfl rfl rfl rfl (jstp_up (sa := []) (st := [vR 33 r0]) rfl (lw_g (jtb_mem (c := 10) (i := 191) rfl) rfl) um44 okX24_aggregates g_21 (fun _ _ => by rw [e_25]; exact ⟨rfl, rfl⟩) rfl rfl) (w.2.2.2.2.2.2.1 e_25) (fun v_24 h_22 _ _ w => ?_)
        exact w_X40_check_268 hK243 w
      · refine jw_cI (st := [vR 33 r0]) (sa := [vR 55 (jar h (jfr h 150 r0) (ixn x3))]) okX24_aggregates rfl rfl rfl rfl rfl rfl (jstp_up (sa := []) (st := [vR 33 r0]) rfl (lw_g (jtb_mem (c := 10) (i := 191) rfl) rfl) um45 okX24_aggregates g_21 (fun _ _ => by rw [e_25]; exact ⟨rfl, rfl⟩) rfl rfl) (w.2.2.2.2.2.2.2.1 e_25) (fun v_24 h_22 _ _ w => ?_)
        exact w_X40_check_268 hK243 w
      · refine jw_cI (st := [vR 33 r0]) (sa := [vR 55 (jar h (jfr h 150 r0) (ixn x3))]) okX24_aggregates rfl rfl rfl rfl rfl rfl (jstp_up (sa := []) (st := [vR 33 r0]) rfl (lw_g (jtb_mem (c := 10) (i := 191) rfl) rfl) um46 okX24_aggregates g_21 (fun _ _ => by rw [e_25]; exact ⟨rfl, rfl⟩) rfl rfl) (w.2.2.2.2.2.2.2.2.1 e_25) (fun v_24 h_22 _ _ w => ?_)
        exact w_X40_check_268 hK243 w
      · refine jw_cI (st := [vR 33 r0]) (sa := [vR 55 (jar h (jfr h 150 r0) (ixn x3))]) okX24_aggregates rfl rfl rfl rfl rfl rfl (jstp_up (sa := []) (st := [vR 33 r0]) rfl (lw_g (jtb_mem (c := 10) (i := 191) rfl) rfl) um47 okX24_aggregates g_21 (fun _ _ => by rw [e_25]; exact ⟨rfl, rfl⟩) rfl rfl) (w.2.2.2.2.2.2.2.2.2 e_25) (fun v_24 h_22 _ _ w => ?_)
        exact w_X40_check_268 hK243 w
def L_X40_check_243 (D : JD) (d : Nat) (Q : JO → JH → Prop) : Nat → Nat → Nat → Int32 → JH → Prop
  | 0 => fun _ _ _ _ => False
  | n + 1 => fun r0 r2 x3 h => W_X40_check_243 D d Q (L_X40_check_243 D d Q n) r0 r2 x3 h
theorem l_X40_check_243 {D : JD} {d : Nat} {Q : JO → JH → Prop} : ∀ (n : Nat) (r0 : Nat) (r2 : Nat) (x3 : Int32) (h : JH), L_X40_check_243 D d Q n r0 r2 x3 h → JW D (d + 1) mX40_check 243 [some (vR 33 r0), none, some (vR 6 r2), some (vI x3), none] [] h Q := by
  intro n
  induction n with
  | zero => intro _ _ _ _ w; exact w.elim
  | succ n ih => intro _ _ _ h w; exact w_X40_check_243 ih w
def W_X40_check_232 (D : JD) (d : Nat) (Q : JO → JH → Prop) (K184 : Nat → Nat → Int32 → JH → Prop) (r0 : Nat) (r2 : Nat) (x3 : Int32) (q0 : Nat) (s1 : Int32) (h : JH) : Prop :=
  q0 ≠ 0 ∧ jbo s1 ∧ ∀ h_3 : JH, h_3 = wfi h 160 q0 s1 → (K184 r0 r2 (x3 + (1 : Int32)) h_3)
theorem w_X40_check_232 {D : JD} {d : Nat} {Q : JO → JH → Prop} {K184 : Nat → Nat → Int32 → JH → Prop} {r0 : Nat} {r2 : Nat} {x3 : Int32} {q0 : Nat} {s1 : Int32} {h : JH} (hK184 : ∀ (r0 : Nat) (r2 : Nat) (x3 : Int32) (h : JH), K184 r0 r2 x3 h → JW D (d + 1) mX40_check 184 [some (vR 33 r0), none, some (vR 6 r2), some (vI x3), none] [] h Q) (w : W_X40_check_232 D d Q K184 r0 r2 x3 q0 s1 h) : JW D (d + 1) mX40_check 232 [some (vR 33 r0), none, some (vR 6 r2), some (vI x3), none] [vI s1, vR 33 q0] h Q := by
  unfold W_X40_check_232 at w
  obtain ⟨g_1, w⟩ := w
  obtain ⟨g_2, w⟩ := w
  refine jw_putI' (pc' := 235) (F := 160) rfl rfl rfl (Or.inr rfl) (Or.inl rfl) rfl (g_2.nr) (g_2.ft) rfl g_1 (fun h_3 e_4 => ?_)
  replace w := w h_3 e_4
  refine jw_iinc (pc' := 238) (y := x3 + (1 : Int32)) (ls' := [some (vR 33 r0), none, some (vR 6 r2), some (vI (x3 + (1 : Int32))), none]) rfl (by decide) rfl rfl rfl ?_
  refine jw_goto (pc' := 184) rfl rfl ?_
  exact hK184 _ _ _ _ w
def W_X40_check_227 (D : JD) (d : Nat) (Q : JO → JH → Prop) (K184 : Nat → Nat → Int32 → JH → Prop) (r0 : Nat) (r2 : Nat) (x3 : Int32) (q0 : Nat) (h : JH) : Prop :=
  W_X40_check_232 D d Q K184 r0 r2 x3 q0 (1 : Int32) h
theorem w_X40_check_227 {D : JD} {d : Nat} {Q : JO → JH → Prop} {K184 : Nat → Nat → Int32 → JH → Prop} {r0 : Nat} {r2 : Nat} {x3 : Int32} {q0 : Nat} {h : JH} (hK184 : ∀ (r0 : Nat) (r2 : Nat) (x3 : Int32) (h : JH), K184 r0 r2 x3 h → JW D (d + 1) mX40_check 184 [some (vR 33 r0), none, some (vR 6 r2), some (vI x3), none] [] h Q) (w : W_X40_check_227 D d Q K184 r0 r2 x3 q0 h) : JW D (d + 1) mX40_check 227 [some (vR 33 r0), none, some (vR 6 r2), some (vI x3), none] [vR 33 q0] h Q := by
  unfold W_X40_check_227 at w
  refine jw_iconst (pc' := 228) (x := (1 : Int32)) rfl rfl ?_
  refine jw_goto (pc' := 232) rfl rfl ?_
  exact w_X40_check_232 hK184 w
def W_X40_check_231 (D : JD) (d : Nat) (Q : JO → JH → Prop) (K184 : Nat → Nat → Int32 → JH → Prop) (r0 : Nat) (r2 : Nat) (x3 : Int32) (q0 : Nat) (h : JH) : Prop :=
  W_X40_check_232 D d Q K184 r0 r2 x3 q0 (0 : Int32) h
theorem w_X40_check_231 {D : JD} {d : Nat} {Q : JO → JH → Prop} {K184 : Nat → Nat → Int32 → JH → Prop} {r0 : Nat} {r2 : Nat} {x3 : Int32} {q0 : Nat} {h : JH} (hK184 : ∀ (r0 : Nat) (r2 : Nat) (x3 : Int32) (h : JH), K184 r0 r2 x3 h → JW D (d + 1) mX40_check 184 [some (vR 33 r0), none, some (vR 6 r2), some (vI x3), none] [] h Q) (w : W_X40_check_231 D d Q K184 r0 r2 x3 q0 h) : JW D (d + 1) mX40_check 231 [some (vR 33 r0), none, some (vR 6 r2), some (vI x3), none] [vR 33 q0] h Q := by
  unfold W_X40_check_231 at w
  refine jw_iconst (pc' := 232) (x := (0 : Int32)) rfl rfl ?_
  exact w_X40_check_232 hK184 w
def W_X40_check_224 (D : JD) (d : Nat) (Q : JO → JH → Prop) (K184 : Nat → Nat → Int32 → JH → Prop) (r0 : Nat) (r2 : Nat) (x3 : Int32) (q0 : Nat) (s1 : Int32) (h : JH) : Prop :=
  (s1 = 0 → W_X40_check_231 D d Q K184 r0 r2 x3 q0 h) ∧ (¬ s1 = 0 → W_X40_check_227 D d Q K184 r0 r2 x3 q0 h)
theorem w_X40_check_224 {D : JD} {d : Nat} {Q : JO → JH → Prop} {K184 : Nat → Nat → Int32 → JH → Prop} {r0 : Nat} {r2 : Nat} {x3 : Int32} {q0 : Nat} {s1 : Int32} {h : JH} (hK184 : ∀ (r0 : Nat) (r2 : Nat) (x3 : Int32) (h : JH), K184 r0 r2 x3 h → JW D (d + 1) mX40_check 184 [some (vR 33 r0), none, some (vR 6 r2), some (vI x3), none] [] h Q) (w : W_X40_check_224 D d Q K184 r0 r2 x3 q0 s1 h) : JW D (d + 1) mX40_check 224 [some (vR 33 r0), none, some (vR 6 r2), some (vI x3), none] [vI s1, vR 33 q0] h Q := by
  unfold W_X40_check_224 at w
  refine jw_if_eq (tgt := 231) (pc' := 227) rfl rfl (fun c_1 => ?_) (fun c_1 => ?_)
  · replace w := w.1 c_1
    exact w_X40_check_231 hK184 w
  · replace w := w.2 c_1
    exact w_X40_check_227 hK184 w
def W_X40_check_184 (D : JD) (d : Nat) (Q : JO → JH → Prop) (K184 : Nat → Nat → Int32 → JH → Prop) (r0 : Nat) (r2 : Nat) (x3 : Int32) (h : JH) : Prop :=
  r0 ≠ 0 ∧ (((jfi h 143 r0) ≤ x3 → ∃ n, L_X40_check_243 D d Q n r0 r2 (0 : Int32) h) ∧ (¬ (jfi h 143 r0) ≤ x3 → (¬ (jfi h 160 r0) = 0 → W_X40_check_227 D d Q K184 r0 r2 x3 r0 h) ∧ ((jfi h 160 r0) = 0 → (jfr h 142 r0) ≠ 0 ∧ jin x3 (jln h (jfr h 142 r0)) ∧ ((jar h (jfr h 142 r0) (ixn x3)) ≠ 0 ∧ ((¬ (jfi h 161 (jar h (jfr h 142 r0) (ixn x3))) = 0 → W_X40_check_231 D d Q K184 r0 r2 x3 r0 h) ∧ ((jfi h 161 (jar h (jfr h 142 r0) (ixn x3))) = 0 → jin x3 (jln h (jfr h 142 r0)) ∧ ((jfr h 163 (jar h (jfr h 142 r0) (ixn x3))) ≠ 0 ∧ (v55_aggregates D d (jfr h 163 (jar h (jfr h 142 r0) (ixn x3))) h (pI D h (fun v_12 h_10 => W_X40_check_224 D d Q K184 r0 r2 x3 r0 v_12 h_10) (jth Q))))))))))
theorem w_X40_check_184 {D : JD} {d : Nat} {Q : JO → JH → Prop} {K184 : Nat → Nat → Int32 → JH → Prop} {r0 : Nat} {r2 : Nat} {x3 : Int32} {h : JH} (hK184 : ∀ (r0 : Nat) (r2 : Nat) (x3 : Int32) (h : JH), K184 r0 r2 x3 h → JW D (d + 1) mX40_check 184 [some (vR 33 r0), none, some (vR 6 r2), some (vI x3), none] [] h Q) (w : W_X40_check_184 D d Q K184 r0 r2 x3 h) : JW D (d + 1) mX40_check 184 [some (vR 33 r0), none, some (vR 6 r2), some (vI x3), none] [] h Q := by
  unfold W_X40_check_184 at w
  refine jw_iload_n (pc' := 185) rfl rfl ?_
  refine jw_aload_n (pc' := 186) rfl rfl ?_
  obtain ⟨g_1, w⟩ := w
  refine jw_getI (pc' := 189) (F := 143) rfl rfl rfl rfl g_1 ?_
  refine jw_icmp_ge (tgt := 241) (pc' := 192) rfl rfl (fun c_2 => ?_) (fun c_2 => ?_)
  · replace w := w.1 c_2
    refine jw_iconst (pc' := 242) (x := (0 : Int32)) rfl rfl ?_
    refine jw_istore_n (pc' := 243) (ls' := [some (vR 33 r0), none, some (vR 6 r2), some (vI (0 : Int32)), none]) rfl (by decide) rfl ?_
    obtain ⟨n, w⟩ := w
    exact l_X40_check_243 n _ _ _ _ w
  · replace w := w.2 c_2
    refine jw_aload_n (pc' := 193) rfl rfl ?_
    refine jw_aload_n (pc' := 194) rfl rfl ?_
    refine jw_getI (pc' := 197) (F := 160) rfl rfl rfl rfl g_1 ?_
    refine jw_if_ne (tgt := 227) (pc' := 200) rfl rfl (fun c_3 => ?_) (fun c_3 => ?_)
    · replace w := w.1 c_3
      exact w_X40_check_227 hK184 w
    · replace w := w.2 c_3
      refine jw_aload_n (pc' := 201) rfl rfl ?_
      refine jw_getR (pc' := 204) (F := 142) (t' := 152) rfl rfl rfl rfl rfl g_1 ?_
      refine jw_iload_n (pc' := 205) rfl rfl ?_
      obtain ⟨g_4, w⟩ := w
      obtain ⟨g_5, w⟩ := w
      refine jw_aald (pc' := 206) (t' := 34) rfl rfl rfl rfl g_4 g_5.ix g_5.2 ?_
      obtain ⟨g_6, w⟩ := w
      refine jw_getI (pc' := 209) (F := 161) rfl rfl rfl rfl g_6 ?_
      refine jw_if_ne (tgt := 231) (pc' := 212) rfl rfl (fun c_7 => ?_) (fun c_7 => ?_)
      · replace w := w.1 c_7
        exact w_X40_check_231 hK184 w
      · replace w := w.2 c_7
        refine jw_aload_n (pc' := 213) rfl rfl ?_
        refine jw_getR (pc' := 216) (F := 142) (t' := 152) rfl rfl rfl rfl rfl g_1 ?_
        refine jw_iload_n (pc' := 217) rfl rfl ?_
        obtain ⟨g_8, w⟩ := w
        refine jw_aald (pc' := 218) (t' := 34) rfl rfl rfl rfl g_4 g_8.ix g_8.2 ?_
        refine jw_getR (pc' := 221) (F := 163) (t' := 55) rfl rfl rfl rfl rfl g_6 ?_
        obtain ⟨g_9, w⟩ := w
        refine JW.inv (fun hI => JW.oks (fun ho => ?_))
        have hkd := und55.k hI (ho (vR 55 (jfr h 163 (jar h (jfr h 142 r0) (ixn x3)))) (by simp)) g_9
        simp only [List.mem_cons, List.not_mem_nil, or_false] at hkd
        clear ho hI
        rcases hkd with e_13 | e_13 | e_13 | e_13 | e_13 | e_13 | e_13 | e_13 | e_13 | e_13
        · refine jw_cI (st := [vR 33 r0]) (sa := [vR 55 (jfr h 163 (jar h (jfr h 142 r0) (ixn x3)))]) okX24_aggregates rfl rfl rfl rfl rfl rfl (jstp_up (sa := []) (st := [vR 33 r0]) rfl (lw_g (jtb_mem (c := 10) (i := 191) rfl) rfl) um38 okX24_aggregates g_9 (fun _ _ => by rw [e_13]; exact ⟨rfl, rfl⟩) rfl rfl) (w.1 e_13) (fun v_12 h_10 _ _ w => ?_)
          exact w_X40_check_224 hK184 w
        · refine jw_cI (st := [vR 33 r0]) (sa := [vR 55 (jfr h 163 (jar h (jfr h 142 r0) (ixn x3)))]) okX24_aggregates rfl rfl rfl rfl rfl rfl (jstp_up (sa := []) (st := [vR 33 r0]) rfl (lw_g (jtb_mem (c := 10) (i := 191) rfl) rfl) um39 okX24_aggregates g_9 (fun _ _ => by rw [e_13]; exact ⟨rfl, rfl⟩) rfl rfl) (w.2.1 e_13) (fun v_12 h_10 _ _ w => ?_)
          exact w_X40_check_224 hK184 w
        · refine jw_gen (ls' := _) (st' := [vR 22 (jfr h 163 (jar h (jfr h 142 r0) (ixn x3))), vR 33 r0]) (jgl_rf _ _) (And.intro (Or.inr ⟨_, _, _, rfl, rfl, Or.inr (Or.inr (by rw [e_13]; rfl))⟩) (jgs_rf _ _)) ?_
          refine jw_cI (st := [vR 33 r0]) (sa := [vR 22 (jfr h 163 (jar h (jfr h 142 r0) (ixn x3)))]) okX28_aggregates rfl rfl rfl rfl rfl rfl (jstp_up (sa := []) (st := [vR 33 r0]) rfl (lw_g (jtb_mem (c := 10) (i := 191) rfl) rfl) um40 okX28_aggregates g_9 (fun _ _ => by rw [e_13]; exact ⟨rfl, rfl⟩) rfl rfl) (w.2.2.1 e_13) (fun v_12 h_10 _ _ w => ?_)
          exact w_X40_check_224 hK184 w
        · refine jw_cI (st := [vR 33 r0]) (sa := [vR 55 (jfr h 163 (jar h (jfr h 142 r0) (ixn x3)))]) okX24_aggregates rfl rfl rfl rfl rfl rfl (jstp_up (sa := []) (st := [vR 33 r0]) rfl (lw_g (jtb_mem (c := 10) (i := 191) rfl) rfl) um41 okX24_aggregates g_9 (fun _ _ => by rw [e_13]; exact ⟨rfl, rfl⟩) rfl rfl) (w.2.2.2.1 e_13) (fun v_12 h_10 _ _ w => ?_)
          exact w_X40_check_224 hK184 w
        · refine jw_cI (st := [vR 33 r0]) (sa := [vR 55 (jfr h 163 (jar h (jfr h 142 r0) (ixn x3)))]) okX24_aggregates rfl rfl rfl rfl rfl rfl (jstp_up (sa := []) (st := [vR 33 r0]) rfl (lw_g (jtb_mem (c := 10) (i := 191) rfl) rfl) um42 okX24_aggregates g_9 (fun _ _ => by rw [e_13]; exact ⟨rfl, rfl⟩) rfl rfl) (w.2.2.2.2.1 e_13) (fun v_12 h_10 _ _ w => ?_)
          exact w_X40_check_224 hK184 w
        · refine jw_cI (st := [vR 33 r0]) (sa := [vR 55 (jfr h 163 (jar h (jfr h 142 r0) (ixn x3)))]) okX24_aggregates rfl rfl rfl rfl rfl rfl (jstp_up (sa := []) (st := [vR 33 r0]) rfl (lw_g (jtb_mem (c := 10) (i := 191) rfl) rfl) um43 okX24_aggregates g_9 (fun _ _ => by rw [e_13]; exact ⟨rfl, rfl⟩) rfl rfl) (w.2.2.2.2.2.1 e_13) (fun v_12 h_10 _ _ w => ?_)
          exact w_X40_check_224 hK184 w
        · refine jw_cI (st := [vR 33 r0]) (sa := [vR 55 (jfr h 163 (jar h (jfr h 142 r0) (ixn x3)))]) okX24_aggregates rfl rfl rfl rfl rfl rfl (jstp_up (sa := []) (st := [vR 33 r0]) rfl (lw_g (jtb_mem (c := 10) (i := 191) rfl) rfl) um44 okX24_aggregates g_9 (fun _ _ => by rw [e_13]; exact ⟨rfl, rfl⟩) rfl rfl) (w.2.2.2.2.2.2.1 e_13) (fun v_12 h_10 _ _ w => ?_)
          exact w_X40_check_224 hK184 w
        · refine jw_cI (st := [vR 33 r0]) (sa := [vR 55 (jfr h 163 (jar h (jfr h 142 r0) (ixn x3)))]) okX24_aggregates rfl rfl rfl rfl rfl rfl (jstp_up (sa := []) (st := [vR 33 r0]) rfl (lw_g (jtb_mem (c := 10) (i := 191) rfl) rfl) um45 okX24_aggregates g_9 (fun _ _ => by rw [e_13]; exact ⟨rfl, rfl⟩) rfl rfl) (w.2.2.2.2.2.2.2.1 e_13) (fun v_12 h_10 _ _ w => ?_)
          exact w_X40_check_224 hK184 w
        · refine jw_cI (st := [vR 33 r0]) (sa := [vR 55 (jfr h 163 (jar h (jfr h 142 r0) (ixn x3)))]) okX24_aggregates rfl rfl rfl rfl rfl rfl (jstp_up (sa := []) (st := [vR 33 r0]) rfl (lw_g (jtb_mem (c := 10) (i := 191) rfl) rfl) um46 okX24_aggregates g_9 (fun _ _ => by rw [e_13]; exact ⟨rfl, rfl⟩) rfl rfl) (w.2.2.2.2.2.2.2.2.1 e_13) (fun v_12 h_10 _ _ w => ?_)
          exact w_X40_check_224 hK184 w
        · refine jw_cI (st := [vR 33 r0]) (sa := [vR 55 (jfr h 163 (jar h (jfr h 142 r0) (ixn x3)))]) okX24_aggregates rfl rfl rfl rfl rfl rfl (jstp_up (sa := []) (st := [vR 33 r0]) rfl (lw_g (jtb_mem (c := 10) (i := 191) rfl) rfl) um47 okX24_aggregates g_9 (fun _ _ => by rw [e_13]; exact ⟨rfl, rfl⟩) rfl rfl) (w.2.2.2.2.2.2.2.2.2 e_13) (fun v_12 h_10 _ _ w => ?_)
          exact w_X40_check_224 hK184 w
def L_X40_check_184 (D : JD) (d : Nat) (Q : JO → JH → Prop) : Nat → Nat → Nat → Int32 → JH → Prop
  | 0 => fun _ _ _ _ => False
  | n + 1 => fun r0 r2 x3 h => W_X40_check_184 D d Q (L_X40_check_184 D d Q n) r0 r2 x3 h
theorem l_X40_check_184 {D : JD} {d : Nat} {Q : JO → JH → Prop} : ∀ (n : Nat) (r0 : Nat) (r2 : Nat) (x3 : Int32) (h : JH), L_X40_check_184 D d Q n r0 r2 x3 h → JW D (d + 1) mX40_check 184 [some (vR 33 r0), none, some (vR 6 r2), some (vI x3), none] [] h Q := by
  intro n
  induction n with
  | zero => intro _ _ _ _ w; exact w.elim
  | succ n ih => intro _ _ _ h w; exact w_X40_check_184 ih w
def W_X40_check_179 (D : JD) (d : Nat) (Q : JO → JH → Prop) (r0 : Nat) (r2 : Nat) (q0 : Nat) (s1 : Int32) (h : JH) : Prop :=
  q0 ≠ 0 ∧ jbo s1 ∧ ∀ h_3 : JH, h_3 = wfi h 160 q0 s1 → (∃ n, L_X40_check_184 D d Q n r0 r2 (0 : Int32) h_3)
theorem w_X40_check_179 {D : JD} {d : Nat} {Q : JO → JH → Prop} {r0 : Nat} {r2 : Nat} {q0 : Nat} {s1 : Int32} {h : JH} (w : W_X40_check_179 D d Q r0 r2 q0 s1 h) : JW D (d + 1) mX40_check 179 [some (vR 33 r0), none, some (vR 6 r2), none, none] [vI s1, vR 33 q0] h Q := by
  unfold W_X40_check_179 at w
  obtain ⟨g_1, w⟩ := w
  obtain ⟨g_2, w⟩ := w
  refine jw_putI' (pc' := 182) (F := 160) rfl rfl rfl (Or.inr rfl) (Or.inl rfl) rfl (g_2.nr) (g_2.ft) rfl g_1 (fun h_3 e_4 => ?_)
  replace w := w h_3 e_4
  refine jw_iconst (pc' := 183) (x := (0 : Int32)) rfl rfl ?_
  refine jw_istore_n (pc' := 184) (ls' := [some (vR 33 r0), none, some (vR 6 r2), some (vI (0 : Int32)), none]) rfl (by decide) rfl ?_
  obtain ⟨n, w⟩ := w
  exact l_X40_check_184 n _ _ _ _ w
def W_X40_check_174 (D : JD) (d : Nat) (Q : JO → JH → Prop) (r0 : Nat) (r2 : Nat) (q0 : Nat) (h : JH) : Prop :=
  W_X40_check_179 D d Q r0 r2 q0 (1 : Int32) h
theorem w_X40_check_174 {D : JD} {d : Nat} {Q : JO → JH → Prop} {r0 : Nat} {r2 : Nat} {q0 : Nat} {h : JH} (w : W_X40_check_174 D d Q r0 r2 q0 h) : JW D (d + 1) mX40_check 174 [some (vR 33 r0), none, some (vR 6 r2), none, none] [vR 33 q0] h Q := by
  unfold W_X40_check_174 at w
  refine jw_iconst (pc' := 175) (x := (1 : Int32)) rfl rfl ?_
  refine jw_goto (pc' := 179) rfl rfl ?_
  exact w_X40_check_179 w
def W_X40_check_152 (D : JD) (d : Nat) (Q : JO → JH → Prop) (K134 : Nat → Nat → Int32 → JH → Prop) (r0 : Nat) (r2 : Nat) (x3 : Int32) (q0 : Nat) (h : JH) : Prop :=
  K134 r0 r2 (x3 + (1 : Int32)) h
theorem w_X40_check_152 {D : JD} {d : Nat} {Q : JO → JH → Prop} {K134 : Nat → Nat → Int32 → JH → Prop} {r0 : Nat} {r2 : Nat} {x3 : Int32} {q0 : Nat} {h : JH} (hK134 : ∀ (r0 : Nat) (r2 : Nat) (x3 : Int32) (h : JH), K134 r0 r2 x3 h → JW D (d + 1) mX40_check 134 [some (vR 33 r0), none, some (vR 6 r2), some (vI x3), none] [] h Q) (w : W_X40_check_152 D d Q K134 r0 r2 x3 q0 h) : JW D (d + 1) mX40_check 152 [some (vR 33 r0), none, some (vR 6 r2), some (vI x3), none] [vR 52 q0] h Q := by
  unfold W_X40_check_152 at w
  refine jw_pop (pc' := 153) rfl rfl ?_
  refine jw_iinc (pc' := 156) (y := x3 + (1 : Int32)) (ls' := [some (vR 33 r0), none, some (vR 6 r2), some (vI (x3 + (1 : Int32))), none]) rfl (by decide) rfl rfl rfl ?_
  refine jw_goto (pc' := 134) rfl rfl ?_
  exact hK134 _ _ _ _ w
def W_X40_check_134 (D : JD) (d : Nat) (Q : JO → JH → Prop) (K134 : Nat → Nat → Int32 → JH → Prop) (r0 : Nat) (r2 : Nat) (x3 : Int32) (h : JH) : Prop :=
  r0 ≠ 0 ∧ (((jfi h 148 r0) ≤ x3 → (0 < (jfi h 148 r0) → W_X40_check_174 D d Q r0 r2 r0 h) ∧ (¬ 0 < (jfi h 148 r0) → ((jfr h 149 r0) = 0 → W_X40_check_179 D d Q r0 r2 r0 (0 : Int32) h) ∧ ((jfr h 149 r0) ≠ 0 → W_X40_check_174 D d Q r0 r2 r0 h))) ∧ (¬ (jfi h 148 r0) ≤ x3 → (jfr h 147 r0) ≠ 0 ∧ jin x3 (jln h (jfr h 147 r0)) ∧ ((jar h (jfr h 147 r0) (ixn x3)) ≠ 0 ∧ (v55_check D d (jar h (jfr h 147 r0) (ixn x3)) r2 h (pR D h 52 (fun v_10 h_8 => W_X40_check_152 D d Q K134 r0 r2 x3 v_10 h_8) (jth Q))))))
theorem w_X40_check_134 {D : JD} {d : Nat} {Q : JO → JH → Prop} {K134 : Nat → Nat → Int32 → JH → Prop} {r0 : Nat} {r2 : Nat} {x3 : Int32} {h : JH} (hK134 : ∀ (r0 : Nat) (r2 : Nat) (x3 : Int32) (h : JH), K134 r0 r2 x3 h → JW D (d + 1) mX40_check 134 [some (vR 33 r0), none, some (vR 6 r2), some (vI x3), none] [] h Q) (w : W_X40_check_134 D d Q K134 r0 r2 x3 h) : JW D (d + 1) mX40_check 134 [some (vR 33 r0), none, some (vR 6 r2), some (vI x3), none] [] h Q := by
  unfold W_X40_check_134 at w
  refine jw_iload_n (pc' := 135) rfl rfl ?_
  refine jw_aload_n (pc' := 136) rfl rfl ?_
  obtain ⟨g_1, w⟩ := w
  refine jw_getI (pc' := 139) (F := 148) rfl rfl rfl rfl g_1 ?_
  refine jw_icmp_ge (tgt := 159) (pc' := 142) rfl rfl (fun c_2 => ?_) (fun c_2 => ?_)
  · replace w := w.1 c_2
    refine jw_aload_n (pc' := 160) rfl rfl ?_
    refine jw_aload_n (pc' := 161) rfl rfl ?_
    refine jw_getI (pc' := 164) (F := 148) rfl rfl rfl rfl g_1 ?_
    refine jw_if_gt (tgt := 174) (pc' := 167) rfl rfl (fun c_3 => ?_) (fun c_3 => ?_)
    · replace w := w.1 c_3
      refine jw_gen (ls' := [some (vR 33 r0), none, some (vR 6 r2), none, none]) (st' := [vR 33 r0]) (And.intro (Or.inl rfl) (And.intro (Or.inl rfl) (trivial))) (And.intro (Or.inl rfl) (trivial)) ?_
      exact w_X40_check_174 w
    · replace w := w.2 c_3
      refine jw_aload_n (pc' := 168) rfl rfl ?_
      refine jw_getR (pc' := 171) (F := 149) (t' := 55) rfl rfl rfl rfl rfl g_1 ?_
      refine jw_ifnull (tgt := 178) (pc' := 174) rfl rfl (fun c_4 => ?_) (fun c_4 => ?_)
      · replace w := w.1 c_4
        refine jw_iconst (pc' := 179) (x := (0 : Int32)) rfl rfl ?_
        refine jw_gen (ls' := [some (vR 33 r0), none, some (vR 6 r2), none, none]) (st' := [vI (0 : Int32), vR 33 r0]) (And.intro (Or.inl rfl) (And.intro (Or.inl rfl) (trivial))) (And.intro (Or.inl rfl) (And.intro (Or.inl rfl) (trivial))) ?_
        exact w_X40_check_179 w
      · replace w := w.2 c_4
        refine jw_gen (ls' := [some (vR 33 r0), none, some (vR 6 r2), none, none]) (st' := [vR 33 r0]) (And.intro (Or.inl rfl) (And.intro (Or.inl rfl) (trivial))) (And.intro (Or.inl rfl) (trivial)) ?_
        exact w_X40_check_174 w
  · replace w := w.2 c_2
    refine jw_aload_n (pc' := 143) rfl rfl ?_
    refine jw_getR (pc' := 146) (F := 147) (t' := 154) rfl rfl rfl rfl rfl g_1 ?_
    refine jw_iload_n (pc' := 147) rfl rfl ?_
    obtain ⟨g_5, w⟩ := w
    obtain ⟨g_6, w⟩ := w
    refine jw_aald (pc' := 148) (t' := 55) rfl rfl rfl rfl g_5 g_6.ix g_6.2 ?_
    refine jw_aload_n (pc' := 149) rfl rfl ?_
    obtain ⟨g_7, w⟩ := w
    refine JW.inv (fun hI => JW.oks (fun ho => ?_))
    have hkd := und55.k hI (ho (vR 55 (jar h (jfr h 147 r0) (ixn x3))) (by simp)) g_7
    simp only [List.mem_cons, List.not_mem_nil, or_false] at hkd
    clear ho hI
    rcases hkd with e_11 | e_11 | e_11 | e_11 | e_11 | e_11 | e_11 | e_11 | e_11 | e_11
    · refine jw_gen (ls' := _) (st' := [vR 6 r2, vR 20 (jar h (jfr h 147 r0) (ixn x3))]) (jgl_rf _ _) (And.intro (Or.inl rfl) (And.intro (Or.inr ⟨_, _, _, rfl, rfl, Or.inr (Or.inr (by rw [e_11]; rfl))⟩) (jgs_rf _ _))) ?_
      refine jw_cR (st := []) (sa := [vR 20 (jar h (jfr h 147 r0) (ixn x3)), vR 6 r2]) okX25_check rfl rfl rfl rfl rfl rfl (jstp_up (sa := [vR 6 r2]) (st := []) rfl (lw_g (jtb_mem (c := 10) (i := 190) rfl) rfl) um18 okX25_check g_7 (fun _ _ => by rw [e_11]; exact ⟨rfl, rfl⟩) rfl rfl) (w.1 e_11) (fun v_10 h_8 _ _ _ w => ?_)
      exact w_X40_check_152 hK134 w
    · refine jw_gen (ls' := _) (st' := [vR 6 r2, vR 21 (jar h (jfr h 147 r0) (ixn x3))]) (jgl_rf _ _) (And.intro (Or.inl rfl) (And.intro (Or.inr ⟨_, _, _, rfl, rfl, Or.inr (Or.inr (by rw [e_11]; rfl))⟩) (jgs_rf _ _))) ?_
      refine jw_cR (st := []) (sa := [vR 21 (jar h (jfr h 147 r0) (ixn x3)), vR 6 r2]) okX27_check rfl rfl rfl rfl rfl rfl (jstp_up (sa := [vR 6 r2]) (st := []) rfl (lw_g (jtb_mem (c := 10) (i := 190) rfl) rfl) um19 okX27_check g_7 (fun _ _ => by rw [e_11]; exact ⟨rfl, rfl⟩) rfl rfl) (w.2.1 e_11) (fun v_10 h_8 _ _ _ w => ?_)
      exact w_X40_check_152 hK134 w
    · refine jw_gen (ls' := _) (st' := [vR 6 r2, vR 22 (jar h (jfr h 147 r0) (ixn x3))]) (jgl_rf _ _) (And.intro (Or.inl rfl) (And.intro (Or.inr ⟨_, _, _, rfl, rfl, Or.inr (Or.inr (by rw [e_11]; rfl))⟩) (jgs_rf _ _))) ?_
      refine jw_cR (st := []) (sa := [vR 22 (jar h (jfr h 147 r0) (ixn x3)), vR 6 r2]) okX28_check rfl rfl rfl rfl rfl rfl (jstp_up (sa := [vR 6 r2]) (st := []) rfl (lw_g (jtb_mem (c := 10) (i := 190) rfl) rfl) um20 okX28_check g_7 (fun _ _ => by rw [e_11]; exact ⟨rfl, rfl⟩) rfl rfl) (w.2.2.1 e_11) (fun v_10 h_8 _ _ _ w => ?_)
      exact w_X40_check_152 hK134 w
    · refine jw_gen (ls' := _) (st' := [vR 6 r2, vR 23 (jar h (jfr h 147 r0) (ixn x3))]) (jgl_rf _ _) (And.intro (Or.inl rfl) (And.intro (Or.inr ⟨_, _, _, rfl, rfl, Or.inr (Or.inr (by rw [e_11]; rfl))⟩) (jgs_rf _ _))) ?_
      refine jw_cR (st := []) (sa := [vR 23 (jar h (jfr h 147 r0) (ixn x3)), vR 6 r2]) okX29_check rfl rfl rfl rfl rfl rfl (jstp_up (sa := [vR 6 r2]) (st := []) rfl (lw_g (jtb_mem (c := 10) (i := 190) rfl) rfl) um21 okX29_check g_7 (fun _ _ => by rw [e_11]; exact ⟨rfl, rfl⟩) rfl rfl) (w.2.2.2.1 e_11) (fun v_10 h_8 _ _ _ w => ?_)
      exact w_X40_check_152 hK134 w
    · refine jw_gen (ls' := _) (st' := [vR 6 r2, vR 24 (jar h (jfr h 147 r0) (ixn x3))]) (jgl_rf _ _) (And.intro (Or.inl rfl) (And.intro (Or.inr ⟨_, _, _, rfl, rfl, Or.inr (Or.inr (by rw [e_11]; rfl))⟩) (jgs_rf _ _))) ?_
      refine jw_cR (st := []) (sa := [vR 24 (jar h (jfr h 147 r0) (ixn x3)), vR 6 r2]) okX30_check rfl rfl rfl rfl rfl rfl (jstp_up (sa := [vR 6 r2]) (st := []) rfl (lw_g (jtb_mem (c := 10) (i := 190) rfl) rfl) um22 okX30_check g_7 (fun _ _ => by rw [e_11]; exact ⟨rfl, rfl⟩) rfl rfl) (w.2.2.2.2.1 e_11) (fun v_10 h_8 _ _ _ w => ?_)
      exact w_X40_check_152 hK134 w
    · refine jw_gen (ls' := _) (st' := [vR 6 r2, vR 25 (jar h (jfr h 147 r0) (ixn x3))]) (jgl_rf _ _) (And.intro (Or.inl rfl) (And.intro (Or.inr ⟨_, _, _, rfl, rfl, Or.inr (Or.inr (by rw [e_11]; rfl))⟩) (jgs_rf _ _))) ?_
      refine jw_cR (st := []) (sa := [vR 25 (jar h (jfr h 147 r0) (ixn x3)), vR 6 r2]) okX31_check rfl rfl rfl rfl rfl rfl (jstp_up (sa := [vR 6 r2]) (st := []) rfl (lw_g (jtb_mem (c := 10) (i := 190) rfl) rfl) um23 okX31_check g_7 (fun _ _ => by rw [e_11]; exact ⟨rfl, rfl⟩) rfl rfl) (w.2.2.2.2.2.1 e_11) (fun v_10 h_8 _ _ _ w => ?_)
      exact w_X40_check_152 hK134 w
    · refine jw_gen (ls' := _) (st' := [vR 6 r2, vR 26 (jar h (jfr h 147 r0) (ixn x3))]) (jgl_rf _ _) (And.intro (Or.inl rfl) (And.intro (Or.inr ⟨_, _, _, rfl, rfl, Or.inr (Or.inr (by rw [e_11]; rfl))⟩) (jgs_rf _ _))) ?_
      refine jw_cR (st := []) (sa := [vR 26 (jar h (jfr h 147 r0) (ixn x3)), vR 6 r2]) okX32_check rfl rfl rfl rfl rfl rfl (jstp_up (sa := [vR 6 r2]) (st := []) rfl (lw_g (jtb_mem (c := 10) (i := 190) rfl) rfl) um24 okX32_check g_7 (fun _ _ => by rw [e_11]; exact ⟨rfl, rfl⟩) rfl rfl) (w.2.2.2.2.2.2.1 e_11) (fun v_10 h_8 _ _ _ w => ?_)
      exact w_X40_check_152 hK134 w
    · refine jw_gen (ls' := _) (st' := [vR 6 r2, vR 27 (jar h (jfr h 147 r0) (ixn x3))]) (jgl_rf _ _) (And.intro (Or.inl rfl) (And.intro (Or.inr ⟨_, _, _, rfl, rfl, Or.inr (Or.inr (by rw [e_11]; rfl))⟩) (jgs_rf _ _))) ?_
      refine jw_cR (st := []) (sa := [vR 27 (jar h (jfr h 147 r0) (ixn x3)), vR 6 r2]) okX33_check rfl rfl rfl rfl rfl rfl (jstp_up (sa := [vR 6 r2]) (st := []) rfl (lw_g (jtb_mem (c := 10) (i := 190) rfl) rfl) um25 okX33_check g_7 (fun _ _ => by rw [e_11]; exact ⟨rfl, rfl⟩) rfl rfl) (w.2.2.2.2.2.2.2.1 e_11) (fun v_10 h_8 _ _ _ w => ?_)
      exact w_X40_check_152 hK134 w
    · refine jw_gen (ls' := _) (st' := [vR 6 r2, vR 28 (jar h (jfr h 147 r0) (ixn x3))]) (jgl_rf _ _) (And.intro (Or.inl rfl) (And.intro (Or.inr ⟨_, _, _, rfl, rfl, Or.inr (Or.inr (by rw [e_11]; rfl))⟩) (jgs_rf _ _))) ?_
      refine jw_cR (st := []) (sa := [vR 28 (jar h (jfr h 147 r0) (ixn x3)), vR 6 r2]) okX34_check rfl rfl rfl rfl rfl rfl (jstp_up (sa := [vR 6 r2]) (st := []) rfl (lw_g (jtb_mem (c := 10) (i := 190) rfl) rfl) um26 okX34_check g_7 (fun _ _ => by rw [e_11]; exact ⟨rfl, rfl⟩) rfl rfl) (w.2.2.2.2.2.2.2.2.1 e_11) (fun v_10 h_8 _ _ _ w => ?_)
      exact w_X40_check_152 hK134 w
    · refine jw_gen (ls' := _) (st' := [vR 6 r2, vR 29 (jar h (jfr h 147 r0) (ixn x3))]) (jgl_rf _ _) (And.intro (Or.inl rfl) (And.intro (Or.inr ⟨_, _, _, rfl, rfl, Or.inr (Or.inr (by rw [e_11]; rfl))⟩) (jgs_rf _ _))) ?_
      refine jw_cR (st := []) (sa := [vR 29 (jar h (jfr h 147 r0) (ixn x3)), vR 6 r2]) okX35_check rfl rfl rfl rfl rfl rfl (jstp_up (sa := [vR 6 r2]) (st := []) rfl (lw_g (jtb_mem (c := 10) (i := 190) rfl) rfl) um27 okX35_check g_7 (fun _ _ => by rw [e_11]; exact ⟨rfl, rfl⟩) rfl rfl) (w.2.2.2.2.2.2.2.2.2 e_11) (fun v_10 h_8 _ _ _ w => ?_)
      exact w_X40_check_152 hK134 w
def L_X40_check_134 (D : JD) (d : Nat) (Q : JO → JH → Prop) : Nat → Nat → Nat → Int32 → JH → Prop
  | 0 => fun _ _ _ _ => False
  | n + 1 => fun r0 r2 x3 h => W_X40_check_134 D d Q (L_X40_check_134 D d Q n) r0 r2 x3 h
theorem l_X40_check_134 {D : JD} {d : Nat} {Q : JO → JH → Prop} : ∀ (n : Nat) (r0 : Nat) (r2 : Nat) (x3 : Int32) (h : JH), L_X40_check_134 D d Q n r0 r2 x3 h → JW D (d + 1) mX40_check 134 [some (vR 33 r0), none, some (vR 6 r2), some (vI x3), none] [] h Q := by
  intro n
  induction n with
  | zero => intro _ _ _ _ w; exact w.elim
  | succ n ih => intro _ _ _ h w; exact w_X40_check_134 ih w
def W_X40_check_43 (D : JD) (d : Nat) (Q : JO → JH → Prop) (K7 : Nat → Nat → Nat → Int32 → JH → Prop) (K43 : Nat → Nat → Nat → Int32 → Int32 → JH → Prop) (r0 : Nat) (r1 : Nat) (r2 : Nat) (x3 : Int32) (x4 : Int32) (h : JH) : Prop :=
  (x3 ≤ x4 → r2 ≠ 0 ∧ (r0 ≠ 0 ∧ ((jfr h 144 r0) ≠ 0 ∧ jin x3 (jln h (jfr h 144 r0)) ∧ ((jfr h 47 r2) ≠ 0 ∧ jin x3 (jln h (jfr h 47 r2)) ∧ ∀ h_8 : JH, h_8 = war h (jfr h 47 r2) (ixn x3) (jar h (jfr h 144 r0) (ixn x3)) → (∀ h_10 : JH, h_10 = wfi h_8 48 r2 (x3 + (1 : Int32)) → ((jfr h_10 144 r0) ≠ 0 ∧ jin x3 (jln h_10 (jfr h_10 144 r0)) ∧ ((jar h_10 (jfr h_10 144 r0) (ixn x3)) ≠ 0 ∧ (cX20_truth D d (jfr h_10 140 (jar h_10 (jfr h_10 144 r0) (ixn x3))) r2 h_10 (pV D h_10 (fun h_15 => K7 r0 r1 r2 (x3 + (1 : Int32)) h_15) (jth Q)))))))))) ∧ (¬ x3 ≤ x4 → r0 ≠ 0 ∧ ((jfr h 144 r0) ≠ 0 ∧ jin x4 (jln h (jfr h 144 r0)) ∧ ((jar h (jfr h 144 r0) (ixn x4)) ≠ 0 ∧ (jin x3 (jln h (jfr h 144 r0)) ∧ ((jar h (jfr h 144 r0) (ixn x3)) ≠ 0 ∧ ((jfr h 136 (jar h (jfr h 144 r0) (ixn x4))) ≠ 0 ∧ (cJ5_equals D d (jfr h 136 (jar h (jfr h 144 r0) (ixn x4))) (jfr h 136 (jar h (jfr h 144 r0) (ixn x3))) h (pI D h (fun v_27 h_25 => (v_27 = 0 → K43 r0 r1 r2 x3 (x4 + (1 : Int32)) h_25) ∧ (¬ v_27 = 0 → cX1_fault D d (jcs D 175) h_25 (pR D h_25 9 (fun v_31 h_29 => v_31 ≠ 0 ∧ (Q (.inr v_31) h_29)) (jth Q)))) (jth Q)))))))))
theorem w_X40_check_43 {D : JD} {d : Nat} {Q : JO → JH → Prop} {K7 : Nat → Nat → Nat → Int32 → JH → Prop} {K43 : Nat → Nat → Nat → Int32 → Int32 → JH → Prop} {r0 : Nat} {r1 : Nat} {r2 : Nat} {x3 : Int32} {x4 : Int32} {h : JH} (hK7 : ∀ (r0 : Nat) (r1 : Nat) (r2 : Nat) (x3 : Int32) (h : JH), K7 r0 r1 r2 x3 h → JW D (d + 1) mX40_check 7 [some (vR 33 r0), some (vR 3 r1), some (vR 6 r2), some (vI x3), none] [] h Q) (hK43 : ∀ (r0 : Nat) (r1 : Nat) (r2 : Nat) (x3 : Int32) (x4 : Int32) (h : JH), K43 r0 r1 r2 x3 x4 h → JW D (d + 1) mX40_check 43 [some (vR 33 r0), some (vR 3 r1), some (vR 6 r2), some (vI x3), some (vI x4)] [] h Q) (w : W_X40_check_43 D d Q K7 K43 r0 r1 r2 x3 x4 h) : JW D (d + 1) mX40_check 43 [some (vR 33 r0), some (vR 3 r1), some (vR 6 r2), some (vI x3), some (vI x4)] [] h Q := by
  unfold W_X40_check_43 at w
  refine jw_iload (pc' := 45) rfl rfl ?_
  refine jw_iload_n (pc' := 46) rfl rfl ?_
  refine jw_icmp_ge (tgt := 86) (pc' := 49) rfl rfl (fun c_1 => ?_) (fun c_1 => ?_)
  · replace w := w.1 c_1
    refine jw_aload_n (pc' := 87) rfl rfl ?_
    obtain ⟨g_2, w⟩ := w
    refine jw_getR (pc' := 90) (F := 47) (t' := 141) rfl rfl rfl rfl rfl g_2 ?_
    refine jw_iload_n (pc' := 91) rfl rfl ?_
    refine jw_aload_n (pc' := 92) rfl rfl ?_
    obtain ⟨g_3, w⟩ := w
    refine jw_getR (pc' := 95) (F := 144) (t' := 153) rfl rfl rfl rfl rfl g_3 ?_
    refine jw_iload_n (pc' := 96) rfl rfl ?_
    obtain ⟨g_4, w⟩ := w
    obtain ⟨g_5, w⟩ := w
    refine jw_aald (pc' := 97) (t' := 31) rfl rfl rfl rfl g_4 g_5.ix g_5.2 ?_
    obtain ⟨g_6, w⟩ := w
    obtain ⟨g_7, w⟩ := w
    refine jw_aast' (pc' := 98) rfl rfl rfl rfl rfl rfl g_6 g_7 (fun h_8 e_9 => ?_)
    replace w := w h_8 e_9
    refine jw_aload_n (pc' := 99) rfl rfl ?_
    refine jw_iload_n (pc' := 100) rfl rfl ?_
    refine jw_iconst (pc' := 101) (x := (1 : Int32)) rfl rfl ?_
    refine jw_iadd (pc' := 102) rfl ?_
    refine jw_putI' (pc' := 105) (F := 48) rfl rfl rfl (Or.inr rfl) (Or.inl rfl) rfl (rfl) (rfl) rfl g_2 (fun h_10 e_11 => ?_)
    replace w := w h_10 e_11
    refine jw_aload_n (pc' := 106) rfl rfl ?_
    refine jw_getR (pc' := 109) (F := 144) (t' := 153) rfl rfl rfl rfl rfl g_3 ?_
    refine jw_iload_n (pc' := 110) rfl rfl ?_
    obtain ⟨g_12, w⟩ := w
    obtain ⟨g_13, w⟩ := w
    refine jw_aald (pc' := 111) (t' := 31) rfl rfl rfl rfl g_12 g_13.ix g_13.2 ?_
    obtain ⟨g_14, w⟩ := w
    refine jw_getR (pc' := 114) (F := 140) (t' := 55) rfl rfl rfl rfl rfl g_14 ?_
    refine jw_aload_n (pc' := 115) rfl rfl ?_
    refine jw_cV (st := []) (sa := [vR 55 (jfr h_10 140 (jar h_10 (jfr h_10 144 r0) (ixn x3))), vR 6 r2]) okX20_truth rfl rfl rfl rfl rfl rfl (jstp_staticUp (sa := [vR 55 (jfr h_10 140 (jar h_10 (jfr h_10 144 r0) (ixn x3))), vR 6 r2]) (st := []) rfl (lw_g (jtb_mem (c := 10) (i := 188) rfl) rfl) (lw_g (jtb_mem (c := 10) (i := 189) rfl) rfl) rfl sX20_truth okX20_truth rfl rfl) w (fun h_15 _ _ w => ?_)
    refine jw_iinc (pc' := 121) (y := x3 + (1 : Int32)) (ls' := [some (vR 33 r0), some (vR 3 r1), some (vR 6 r2), some (vI (x3 + (1 : Int32))), some (vI x4)]) rfl (by decide) rfl rfl rfl ?_
    refine jw_goto (pc' := 7) rfl rfl ?_
    refine jw_gen (ls' := [some (vR 33 r0), some (vR 3 r1), some (vR 6 r2), some (vI (x3 + (1 : Int32))), none]) (st' := []) (And.intro (Or.inl rfl) (And.intro (Or.inl rfl) (And.intro (Or.inl rfl) (And.intro (Or.inl rfl) (trivial))))) (trivial) ?_
    exact hK7 _ _ _ _ _ w
  · replace w := w.2 c_1
    refine jw_aload_n (pc' := 50) rfl rfl ?_
    obtain ⟨g_18, w⟩ := w
    refine jw_getR (pc' := 53) (F := 144) (t' := 153) rfl rfl rfl rfl rfl g_18 ?_
    refine jw_iload (pc' := 55) rfl rfl ?_
    obtain ⟨g_19, w⟩ := w
    obtain ⟨g_20, w⟩ := w
    refine jw_aald (pc' := 56) (t' := 31) rfl rfl rfl rfl g_19 g_20.ix g_20.2 ?_
    obtain ⟨g_21, w⟩ := w
    refine jw_getR (pc' := 59) (F := 136) (t' := 64) rfl rfl rfl rfl rfl g_21 ?_
    refine jw_aload_n (pc' := 60) rfl rfl ?_
    refine jw_getR (pc' := 63) (F := 144) (t' := 153) rfl rfl rfl rfl rfl g_18 ?_
    refine jw_iload_n (pc' := 64) rfl rfl ?_
    obtain ⟨g_22, w⟩ := w
    refine jw_aald (pc' := 65) (t' := 31) rfl rfl rfl rfl g_19 g_22.ix g_22.2 ?_
    obtain ⟨g_23, w⟩ := w
    refine jw_getR (pc' := 68) (F := 136) (t' := 64) rfl rfl rfl rfl rfl g_23 ?_
    obtain ⟨g_24, w⟩ := w
    refine jw_cI (st := []) (sa := [vR 64 (jfr h 136 (jar h (jfr h 144 r0) (ixn x4))), vR 64 (jfr h 136 (jar h (jfr h 144 r0) (ixn x3)))]) okJ5_equals rfl rfl rfl rfl rfl rfl (jstp_virtual (sa := [vR 64 (jfr h 136 (jar h (jfr h 144 r0) (ixn x3)))]) (st := []) (k := 0) rfl rfl sJ5_equals okJ5_equals g_24 (one64.k g_24) rfl rfl) w (fun v_27 h_25 _ _ w => ?_)
    refine jw_if_eq (tgt := 80) (pc' := 74) rfl rfl (fun c_28 => ?_) (fun c_28 => ?_)
    · replace w := w.1 c_28
      refine jw_iinc (pc' := 83) (y := x4 + (1 : Int32)) (ls' := [some (vR 33 r0), some (vR 3 r1), some (vR 6 r2), some (vI x3), some (vI (x4 + (1 : Int32)))]) rfl (by decide) rfl rfl rfl ?_
      refine jw_goto (pc' := 43) rfl rfl ?_
      exact hK43 _ _ _ _ _ _ w
    · replace w := w.2 c_28
      refine jw_ldcS (pc' := 76) rfl rfl rfl rfl ?_
      refine jw_cR (st := []) (sa := [vR 51 (jcs D 175)]) okX1_fault rfl rfl rfl rfl rfl rfl (jstp_static (sa := [vR 51 (jcs D 175)]) (st := []) rfl rfl sX1_fault okX1_fault rfl rfl) w (fun v_31 h_29 _ _ _ w => ?_)
      obtain ⟨g_32, w⟩ := w
      exact jw_athrow rfl rfl g_32 w
def L_X40_check_43 (D : JD) (d : Nat) (Q : JO → JH → Prop) (K7 : Nat → Nat → Nat → Int32 → JH → Prop) : Nat → Nat → Nat → Nat → Int32 → Int32 → JH → Prop
  | 0 => fun _ _ _ _ _ _ => False
  | n + 1 => fun r0 r1 r2 x3 x4 h => W_X40_check_43 D d Q K7 (L_X40_check_43 D d Q K7 n) r0 r1 r2 x3 x4 h
theorem l_X40_check_43 {D : JD} {d : Nat} {Q : JO → JH → Prop} {K7 : Nat → Nat → Nat → Int32 → JH → Prop} (hK7 : ∀ (r0 : Nat) (r1 : Nat) (r2 : Nat) (x3 : Int32) (h : JH), K7 r0 r1 r2 x3 h → JW D (d + 1) mX40_check 7 [some (vR 33 r0), some (vR 3 r1), some (vR 6 r2), some (vI x3), none] [] h Q) : ∀ (n : Nat) (r0 : Nat) (r1 : Nat) (r2 : Nat) (x3 : Int32) (x4 : Int32) (h : JH), L_X40_check_43 D d Q K7 n r0 r1 r2 x3 x4 h → JW D (d + 1) mX40_check 43 [some (vR 33 r0), some (vR 3 r1), some (vR 6 r2), some (vI x3), some (vI x4)] [] h Q := by
  intro n
  induction n with
  | zero => intro _ _ _ _ _ _ w; exact w.elim
  | succ n ih => intro _ _ _ _ _ h w; exact w_X40_check_43 hK7 ih w
def W_X40_check_7 (D : JD) (d : Nat) (Q : JO → JH → Prop) (K7 : Nat → Nat → Nat → Int32 → JH → Prop) (r0 : Nat) (r1 : Nat) (r2 : Nat) (x3 : Int32) (h : JH) : Prop :=
  r0 ≠ 0 ∧ (((jfi h 145 r0) ≤ x3 → cX20_truth D d (jfr h 146 r0) r2 h (pV D h (fun h_3 => ∃ n, L_X40_check_134 D d Q n r0 r2 (0 : Int32) h_3) (jth Q))) ∧ (¬ (jfi h 145 r0) ≤ x3 → (jfr h 144 r0) ≠ 0 ∧ jin x3 (jln h (jfr h 144 r0)) ∧ (r1 ≠ 0 ∧ (jin x3 (jln h (jfr h 144 r0)) ∧ ((jar h (jfr h 144 r0) (ixn x3)) ≠ 0 ∧ ((jfr h 20 r1) ≠ 0 ∧ (cX4_needed D d (jfr h 20 r1) (jfr h 137 (jar h (jfr h 144 r0) (ixn x3))) h (pR D h 5 (fun v_14 h_12 => ∀ h_15 : JH, h_15 = wfr h_12 138 (jar h (jfr h 144 r0) (ixn x3)) v_14 → (∃ n, L_X40_check_43 D d Q K7 n r0 r1 r2 x3 (0 : Int32) h_15)) (jth Q)))))))))
theorem w_X40_check_7 {D : JD} {d : Nat} {Q : JO → JH → Prop} {K7 : Nat → Nat → Nat → Int32 → JH → Prop} {r0 : Nat} {r1 : Nat} {r2 : Nat} {x3 : Int32} {h : JH} (hK7 : ∀ (r0 : Nat) (r1 : Nat) (r2 : Nat) (x3 : Int32) (h : JH), K7 r0 r1 r2 x3 h → JW D (d + 1) mX40_check 7 [some (vR 33 r0), some (vR 3 r1), some (vR 6 r2), some (vI x3), none] [] h Q) (w : W_X40_check_7 D d Q K7 r0 r1 r2 x3 h) : JW D (d + 1) mX40_check 7 [some (vR 33 r0), some (vR 3 r1), some (vR 6 r2), some (vI x3), none] [] h Q := by
  unfold W_X40_check_7 at w
  refine jw_iload_n (pc' := 8) rfl rfl ?_
  refine jw_aload_n (pc' := 9) rfl rfl ?_
  obtain ⟨g_1, w⟩ := w
  refine jw_getI (pc' := 12) (F := 145) rfl rfl rfl rfl g_1 ?_
  refine jw_icmp_ge (tgt := 124) (pc' := 15) rfl rfl (fun c_2 => ?_) (fun c_2 => ?_)
  · replace w := w.1 c_2
    refine jw_aload_n (pc' := 125) rfl rfl ?_
    refine jw_getR (pc' := 128) (F := 146) (t' := 55) rfl rfl rfl rfl rfl g_1 ?_
    refine jw_aload_n (pc' := 129) rfl rfl ?_
    refine jw_cV (st := []) (sa := [vR 55 (jfr h 146 r0), vR 6 r2]) okX20_truth rfl rfl rfl rfl rfl rfl (jstp_staticUp (sa := [vR 55 (jfr h 146 r0), vR 6 r2]) (st := []) rfl (lw_g (jtb_mem (c := 10) (i := 188) rfl) rfl) (lw_g (jtb_mem (c := 10) (i := 189) rfl) rfl) rfl sX20_truth okX20_truth rfl rfl) w (fun h_3 _ _ w => ?_)
    refine jw_iconst (pc' := 133) (x := (0 : Int32)) rfl rfl ?_
    refine jw_istore_n (pc' := 134) (ls' := [some (vR 33 r0), some (vR 3 r1), some (vR 6 r2), some (vI (0 : Int32)), none]) rfl (by decide) rfl ?_
    refine jw_gen (ls' := [some (vR 33 r0), none, some (vR 6 r2), some (vI (0 : Int32)), none]) (st' := []) (And.intro (Or.inl rfl) (And.intro (Or.inl rfl) (And.intro (Or.inl rfl) (trivial)))) (trivial) ?_
    obtain ⟨n, w⟩ := w
    exact l_X40_check_134 n _ _ _ _ w
  · replace w := w.2 c_2
    refine jw_aload_n (pc' := 16) rfl rfl ?_
    refine jw_getR (pc' := 19) (F := 144) (t' := 153) rfl rfl rfl rfl rfl g_1 ?_
    refine jw_iload_n (pc' := 20) rfl rfl ?_
    obtain ⟨g_6, w⟩ := w
    obtain ⟨g_7, w⟩ := w
    refine jw_aald (pc' := 21) (t' := 31) rfl rfl rfl rfl g_6 g_7.ix g_7.2 ?_
    refine jw_aload_n (pc' := 22) rfl rfl ?_
    obtain ⟨g_8, w⟩ := w
    refine jw_getR (pc' := 25) (F := 20) (t' := 114) rfl rfl rfl rfl rfl g_8 ?_
    refine jw_aload_n (pc' := 26) rfl rfl ?_
    refine jw_getR (pc' := 29) (F := 144) (t' := 153) rfl rfl rfl rfl rfl g_1 ?_
    refine jw_iload_n (pc' := 30) rfl rfl ?_
    obtain ⟨g_9, w⟩ := w
    refine jw_aald (pc' := 31) (t' := 31) rfl rfl rfl rfl g_6 g_9.ix g_9.2 ?_
    obtain ⟨g_10, w⟩ := w
    refine jw_getR (pc' := 34) (F := 137) (t' := 64) rfl rfl rfl rfl rfl g_10 ?_
    obtain ⟨g_11, w⟩ := w
    refine jw_cR (st := [vR 31 (jar h (jfr h 144 r0) (ixn x3))]) (sa := [vR 114 (jfr h 20 r1), vR 64 (jfr h 137 (jar h (jfr h 144 r0) (ixn x3)))]) okX4_needed rfl rfl rfl rfl rfl rfl (jstp_virtual (sa := [vR 64 (jfr h 137 (jar h (jfr h 144 r0) (ixn x3)))]) (st := [vR 31 (jar h (jfr h 144 r0) (ixn x3))]) (k := 0) rfl rfl sX4_needed okX4_needed g_11 (one114.k g_11) rfl rfl) w (fun v_14 h_12 _ _ _ w => ?_)
    refine jw_putR' (pc' := 40) (F := 138) rfl rfl rfl (Or.inr rfl) (Or.inl rfl) rfl rfl rfl g_10 (fun h_15 e_16 => ?_)
    replace w := w h_15 e_16
    refine jw_iconst (pc' := 41) (x := (0 : Int32)) rfl rfl ?_
    refine jw_istore (pc' := 43) (ls' := [some (vR 33 r0), some (vR 3 r1), some (vR 6 r2), some (vI x3), some (vI (0 : Int32))]) rfl (by decide) rfl ?_
    obtain ⟨n, w⟩ := w
    exact l_X40_check_43 hK7 n _ _ _ _ _ _ w
def L_X40_check_7 (D : JD) (d : Nat) (Q : JO → JH → Prop) : Nat → Nat → Nat → Nat → Int32 → JH → Prop
  | 0 => fun _ _ _ _ _ => False
  | n + 1 => fun r0 r1 r2 x3 h => W_X40_check_7 D d Q (L_X40_check_7 D d Q n) r0 r1 r2 x3 h
theorem l_X40_check_7 {D : JD} {d : Nat} {Q : JO → JH → Prop} : ∀ (n : Nat) (r0 : Nat) (r1 : Nat) (r2 : Nat) (x3 : Int32) (h : JH), L_X40_check_7 D d Q n r0 r1 r2 x3 h → JW D (d + 1) mX40_check 7 [some (vR 33 r0), some (vR 3 r1), some (vR 6 r2), some (vI x3), none] [] h Q := by
  intro n
  induction n with
  | zero => intro _ _ _ _ _ w; exact w.elim
  | succ n ih => intro _ _ _ _ h w; exact w_X40_check_7 ih w
def W_X40_check_0 (D : JD) (d : Nat) (Q : JO → JH → Prop) (r0 : Nat) (r1 : Nat) (h : JH) : Prop :=
  r1 ≠ 0 ∧ (∃ n, L_X40_check_7 D d Q n r0 r1 (jfr h 23 r1) (0 : Int32) h)
theorem w_X40_check_0 {D : JD} {d : Nat} {Q : JO → JH → Prop} {r0 : Nat} {r1 : Nat} {h : JH} (w : W_X40_check_0 D d Q r0 r1 h) : JW D (d + 1) mX40_check 0 [some (vR 33 r0), some (vR 3 r1), none, none, none] [] h Q := by
  unfold W_X40_check_0 at w
  refine jw_aload_n (pc' := 1) rfl rfl ?_
  obtain ⟨g_1, w⟩ := w
  refine jw_getR (pc' := 4) (F := 23) (t' := 6) rfl rfl rfl rfl rfl g_1 ?_
  refine jw_astore_n (pc' := 5) (ls' := [some (vR 33 r0), some (vR 3 r1), some (vR 6 (jfr h 23 r1)), none, none]) rfl (by decide) rfl ?_
  refine jw_iconst (pc' := 6) (x := (0 : Int32)) rfl rfl ?_
  refine jw_istore_n (pc' := 7) (ls' := [some (vR 33 r0), some (vR 3 r1), some (vR 6 (jfr h 23 r1)), some (vI (0 : Int32)), none]) rfl (by decide) rfl ?_
  obtain ⟨n, w⟩ := w
  exact l_X40_check_7 n _ _ _ _ _ w
def T_X40_check (D : JD) (d : Nat) (Q : JO → JH → Prop) (r0 : Nat) (r1 : Nat) (h : JH) : Prop := W_X40_check_0 D d Q r0 r1 h
theorem t_X40_check {D : JD} {d : Nat} {Q : JO → JH → Prop} {r0 : Nat} {r1 : Nat} {h : JH} (w : T_X40_check D d Q r0 r1 h) : cX40_check D (d + 1) r0 r1 h Q := by
  unfold T_X40_check at w
  unfold cX40_check
  exact w_X40_check_0 w
def W_X40_column_225 (D : JD) (d : Nat) (Q : JO → JH → Prop) (K91 : Nat → Nat → Nat → Int32 → Int32 → JH → Prop) (r0 : Nat) (r1 : Nat) (r2 : Nat) (x3 : Int32) (x4 : Int32) (h : JH) : Prop :=
  K91 r0 r1 r2 x3 (x4 + (1 : Int32)) h
theorem w_X40_column_225 {D : JD} {d : Nat} {Q : JO → JH → Prop} {K91 : Nat → Nat → Nat → Int32 → Int32 → JH → Prop} {r0 : Nat} {r1 : Nat} {r2 : Nat} {x3 : Int32} {x4 : Int32} {h : JH} (hK91 : ∀ (r0 : Nat) (r1 : Nat) (r2 : Nat) (x3 : Int32) (x4 : Int32) (h : JH), K91 r0 r1 r2 x3 x4 h → JW D (d + 1) mX40_column 91 [some (vR 33 r0), some (vR 34 r1), some (vR 6 r2), some (vI x3), some (vI x4), none, none] [] h Q) (w : W_X40_column_225 D d Q K91 r0 r1 r2 x3 x4 h) : JW D (d + 1) mX40_column 225 [some (vR 33 r0), some (vR 34 r1), some (vR 6 r2), some (vI x3), some (vI x4), none, none] [] h Q := by
  unfold W_X40_column_225 at w
  refine jw_iinc (pc' := 228) (y := x4 + (1 : Int32)) (ls' := [some (vR 33 r0), some (vR 34 r1), some (vR 6 r2), some (vI x3), some (vI (x4 + (1 : Int32))), none, none]) rfl (by decide) rfl rfl rfl ?_
  refine jw_goto (pc' := 91) rfl rfl ?_
  exact hK91 _ _ _ _ _ _ w
def W_X40_column_208 (D : JD) (d : Nat) (Q : JO → JH → Prop) (K91 : Nat → Nat → Nat → Int32 → Int32 → JH → Prop) (K135 : Nat → Nat → Nat → Int32 → Int32 → Int32 → JH → Prop) (r0 : Nat) (r1 : Nat) (r2 : Nat) (x3 : Int32) (x4 : Int32) (x5 : Int32) (r6 : Nat) (h : JH) : Prop :=
  r6 ≠ 0 ∧ (cX30_title D d r6 h (pR D h 64 (fun v_4 h_2 => r0 ≠ 0 ∧ (cX40_add D d r0 r6 v_4 h_2 (pV D h_2 (fun h_6 => K135 r0 r1 r2 x3 x4 (x5 + (1 : Int32)) h_6) (jth Q)))) (jth Q)))
theorem w_X40_column_208 {D : JD} {d : Nat} {Q : JO → JH → Prop} {K91 : Nat → Nat → Nat → Int32 → Int32 → JH → Prop} {K135 : Nat → Nat → Nat → Int32 → Int32 → Int32 → JH → Prop} {r0 : Nat} {r1 : Nat} {r2 : Nat} {x3 : Int32} {x4 : Int32} {x5 : Int32} {r6 : Nat} {h : JH} (hK91 : ∀ (r0 : Nat) (r1 : Nat) (r2 : Nat) (x3 : Int32) (x4 : Int32) (h : JH), K91 r0 r1 r2 x3 x4 h → JW D (d + 1) mX40_column 91 [some (vR 33 r0), some (vR 34 r1), some (vR 6 r2), some (vI x3), some (vI x4), none, none] [] h Q) (hK135 : ∀ (r0 : Nat) (r1 : Nat) (r2 : Nat) (x3 : Int32) (x4 : Int32) (x5 : Int32) (h : JH), K135 r0 r1 r2 x3 x4 x5 h → JW D (d + 1) mX40_column 135 [some (vR 33 r0), some (vR 34 r1), some (vR 6 r2), some (vI x3), some (vI x4), some (vI x5), none] [] h Q) (w : W_X40_column_208 D d Q K91 K135 r0 r1 r2 x3 x4 x5 r6 h) : JW D (d + 1) mX40_column 208 [some (vR 33 r0), some (vR 34 r1), some (vR 6 r2), some (vI x3), some (vI x4), some (vI x5), some (vR 24 r6)] [] h Q := by
  unfold W_X40_column_208 at w
  refine jw_aload_n (pc' := 209) rfl rfl ?_
  refine jw_aload (pc' := 211) rfl rfl ?_
  refine jw_aload (pc' := 213) rfl rfl ?_
  obtain ⟨g_1, w⟩ := w
  refine jw_cR (st := [vR 24 r6, vR 33 r0]) (sa := [vR 24 r6]) okX30_title rfl rfl rfl rfl rfl rfl (jstp_virtual (sa := []) (st := [vR 24 r6, vR 33 r0]) (k := 0) rfl rfl sX30_title okX30_title g_1 (one24.k g_1) rfl rfl) w (fun v_4 h_2 _ _ _ w => ?_)
  obtain ⟨g_5, w⟩ := w
  refine jw_cV (st := []) (sa := [vR 33 r0, vR 24 r6, vR 64 v_4]) okX40_add rfl rfl rfl rfl rfl rfl (jstp_virtual (sa := [vR 24 r6, vR 64 v_4]) (st := []) (k := 0) rfl rfl sX40_add okX40_add g_5 (one33.k g_5) rfl rfl) w (fun h_6 _ _ w => ?_)
  refine jw_iinc (pc' := 222) (y := x5 + (1 : Int32)) (ls' := [some (vR 33 r0), some (vR 34 r1), some (vR 6 r2), some (vI x3), some (vI x4), some (vI (x5 + (1 : Int32))), some (vR 24 r6)]) rfl (by decide) rfl rfl rfl ?_
  refine jw_goto (pc' := 135) rfl rfl ?_
  refine jw_gen (ls' := [some (vR 33 r0), some (vR 34 r1), some (vR 6 r2), some (vI x3), some (vI x4), some (vI (x5 + (1 : Int32))), none]) (st' := []) (And.intro (Or.inl rfl) (And.intro (Or.inl rfl) (And.intro (Or.inl rfl) (And.intro (Or.inl rfl) (And.intro (Or.inl rfl) (And.intro (Or.inl rfl) (trivial))))))) (trivial) ?_
  exact hK135 _ _ _ _ _ _ _ w
def W_X40_column_135 (D : JD) (d : Nat) (Q : JO → JH → Prop) (K91 : Nat → Nat → Nat → Int32 → Int32 → JH → Prop) (K135 : Nat → Nat → Nat → Int32 → Int32 → Int32 → JH → Prop) (r0 : Nat) (r1 : Nat) (r2 : Nat) (x3 : Int32) (x4 : Int32) (x5 : Int32) (h : JH) : Prop :=
  r0 ≠ 0 ∧ ((jfr h 144 r0) ≠ 0 ∧ jin x4 (jln h (jfr h 144 r0)) ∧ ((jar h (jfr h 144 r0) (ixn x4)) ≠ 0 ∧ ((jfr h 138 (jar h (jfr h 144 r0) (ixn x4))) ≠ 0 ∧ (((jfi h 44 (jfr h 138 (jar h (jfr h 144 r0) (ixn x4)))) ≤ x5 → W_X40_column_225 D d Q K91 r0 r1 r2 x3 x4 h) ∧ (¬ (jfi h 44 (jfr h 138 (jar h (jfr h 144 r0) (ixn x4)))) ≤ x5 → jin x4 (jln h (jfr h 144 r0)) ∧ (jin x4 (jln h (jfr h 144 r0)) ∧ ((jfr h 43 (jfr h 138 (jar h (jfr h 144 r0) (ixn x4)))) ≠ 0 ∧ jin x5 (jln h (jfr h 43 (jfr h 138 (jar h (jfr h 144 r0) (ixn x4))))) ∧ ((jar h (jfr h 43 (jfr h 138 (jar h (jfr h 144 r0) (ixn x4)))) (ixn x5)) ≠ 0 ∧ (cX40_star D d r0 (jfr h 136 (jar h (jfr h 144 r0) (ixn x4))) (jfr h 92 (jar h (jfr h 43 (jfr h 138 (jar h (jfr h 144 r0) (ixn x4)))) (ixn x5))) h (pR D h 24 (fun v_14 h_12 => v_14 ≠ 0 ∧ (cX30_check D d v_14 r2 h_12 (pR D h_12 52 (fun v_18 h_16 => ((jfi h_16 160 r0) = 0 → W_X40_column_208 D d Q K91 K135 r0 r1 r2 x3 x4 x5 v_14 h_16) ∧ (¬ (jfi h_16 160 r0) = 0 → cX24_grouped D d v_14 r2 h_16 (pV D h_16 (fun h_20 => W_X40_column_208 D d Q K91 K135 r0 r1 r2 x3 x4 x5 v_14 h_20) (jth Q)))) (jth Q)))) (jth Q)))))))))))
theorem w_X40_column_135 {D : JD} {d : Nat} {Q : JO → JH → Prop} {K91 : Nat → Nat → Nat → Int32 → Int32 → JH → Prop} {K135 : Nat → Nat → Nat → Int32 → Int32 → Int32 → JH → Prop} {r0 : Nat} {r1 : Nat} {r2 : Nat} {x3 : Int32} {x4 : Int32} {x5 : Int32} {h : JH} (hK91 : ∀ (r0 : Nat) (r1 : Nat) (r2 : Nat) (x3 : Int32) (x4 : Int32) (h : JH), K91 r0 r1 r2 x3 x4 h → JW D (d + 1) mX40_column 91 [some (vR 33 r0), some (vR 34 r1), some (vR 6 r2), some (vI x3), some (vI x4), none, none] [] h Q) (hK135 : ∀ (r0 : Nat) (r1 : Nat) (r2 : Nat) (x3 : Int32) (x4 : Int32) (x5 : Int32) (h : JH), K135 r0 r1 r2 x3 x4 x5 h → JW D (d + 1) mX40_column 135 [some (vR 33 r0), some (vR 34 r1), some (vR 6 r2), some (vI x3), some (vI x4), some (vI x5), none] [] h Q) (w : W_X40_column_135 D d Q K91 K135 r0 r1 r2 x3 x4 x5 h) : JW D (d + 1) mX40_column 135 [some (vR 33 r0), some (vR 34 r1), some (vR 6 r2), some (vI x3), some (vI x4), some (vI x5), none] [] h Q := by
  unfold W_X40_column_135 at w
  refine jw_iload (pc' := 137) rfl rfl ?_
  refine jw_aload_n (pc' := 138) rfl rfl ?_
  obtain ⟨g_1, w⟩ := w
  refine jw_getR (pc' := 141) (F := 144) (t' := 153) rfl rfl rfl rfl rfl g_1 ?_
  refine jw_iload (pc' := 143) rfl rfl ?_
  obtain ⟨g_2, w⟩ := w
  obtain ⟨g_3, w⟩ := w
  refine jw_aald (pc' := 144) (t' := 31) rfl rfl rfl rfl g_2 g_3.ix g_3.2 ?_
  obtain ⟨g_4, w⟩ := w
  refine jw_getR (pc' := 147) (F := 138) (t' := 5) rfl rfl rfl rfl rfl g_4 ?_
  obtain ⟨g_5, w⟩ := w
  refine jw_getI (pc' := 150) (F := 44) rfl rfl rfl rfl g_5 ?_
  refine jw_icmp_ge (tgt := 225) (pc' := 153) rfl rfl (fun c_6 => ?_) (fun c_6 => ?_)
  · replace w := w.1 c_6
    refine jw_gen (ls' := [some (vR 33 r0), some (vR 34 r1), some (vR 6 r2), some (vI x3), some (vI x4), none, none]) (st' := []) (And.intro (Or.inl rfl) (And.intro (Or.inl rfl) (And.intro (Or.inl rfl) (And.intro (Or.inl rfl) (And.intro (Or.inl rfl) (trivial)))))) (trivial) ?_
    exact w_X40_column_225 hK91 w
  · replace w := w.2 c_6
    refine jw_aload_n (pc' := 154) rfl rfl ?_
    refine jw_aload_n (pc' := 155) rfl rfl ?_
    refine jw_getR (pc' := 158) (F := 144) (t' := 153) rfl rfl rfl rfl rfl g_1 ?_
    refine jw_iload (pc' := 160) rfl rfl ?_
    obtain ⟨g_7, w⟩ := w
    refine jw_aald (pc' := 161) (t' := 31) rfl rfl rfl rfl g_2 g_7.ix g_7.2 ?_
    refine jw_getR (pc' := 164) (F := 136) (t' := 64) rfl rfl rfl rfl rfl g_4 ?_
    refine jw_aload_n (pc' := 165) rfl rfl ?_
    refine jw_getR (pc' := 168) (F := 144) (t' := 153) rfl rfl rfl rfl rfl g_1 ?_
    refine jw_iload (pc' := 170) rfl rfl ?_
    obtain ⟨g_8, w⟩ := w
    refine jw_aald (pc' := 171) (t' := 31) rfl rfl rfl rfl g_2 g_8.ix g_8.2 ?_
    refine jw_getR (pc' := 174) (F := 138) (t' := 5) rfl rfl rfl rfl rfl g_4 ?_
    refine jw_getR (pc' := 177) (F := 43) (t' := 82) rfl rfl rfl rfl rfl g_5 ?_
    refine jw_iload (pc' := 179) rfl rfl ?_
    obtain ⟨g_9, w⟩ := w
    obtain ⟨g_10, w⟩ := w
    refine jw_aald (pc' := 180) (t' := 16) rfl rfl rfl rfl g_9 g_10.ix g_10.2 ?_
    obtain ⟨g_11, w⟩ := w
    refine jw_getR (pc' := 183) (F := 92) (t' := 64) rfl rfl rfl rfl rfl g_11 ?_
    refine jw_cR (st := []) (sa := [vR 33 r0, vR 64 (jfr h 136 (jar h (jfr h 144 r0) (ixn x4))), vR 64 (jfr h 92 (jar h (jfr h 43 (jfr h 138 (jar h (jfr h 144 r0) (ixn x4)))) (ixn x5)))]) okX40_star rfl rfl rfl rfl rfl rfl (jstp_virtual (sa := [vR 64 (jfr h 136 (jar h (jfr h 144 r0) (ixn x4))), vR 64 (jfr h 92 (jar h (jfr h 43 (jfr h 138 (jar h (jfr h 144 r0) (ixn x4)))) (ixn x5)))]) (st := []) (k := 0) rfl rfl sX40_star okX40_star g_1 (one33.k g_1) rfl rfl) w (fun v_14 h_12 _ _ _ w => ?_)
    refine jw_astore (pc' := 188) (ls' := [some (vR 33 r0), some (vR 34 r1), some (vR 6 r2), some (vI x3), some (vI x4), some (vI x5), some (vR 24 v_14)]) rfl (by decide) rfl ?_
    refine jw_aload (pc' := 190) rfl rfl ?_
    refine jw_aload_n (pc' := 191) rfl rfl ?_
    obtain ⟨g_15, w⟩ := w
    refine jw_cR (st := []) (sa := [vR 24 v_14, vR 6 r2]) okX30_check rfl rfl rfl rfl rfl rfl (jstp_virtual (sa := [vR 6 r2]) (st := []) (k := 0) rfl rfl sX30_check okX30_check g_15 (one24.k g_15) rfl rfl) w (fun v_18 h_16 _ _ _ w => ?_)
    refine jw_pop (pc' := 195) rfl rfl ?_
    refine jw_aload_n (pc' := 196) rfl rfl ?_
    refine jw_getI (pc' := 199) (F := 160) rfl rfl rfl rfl g_1 ?_
    refine jw_if_eq (tgt := 208) (pc' := 202) rfl rfl (fun c_19 => ?_) (fun c_19 => ?_)
    · replace w := w.1 c_19
      exact w_X40_column_208 hK91 hK135 w
    · replace w := w.2 c_19
      refine jw_aload (pc' := 204) rfl rfl ?_
      refine jw_aload_n (pc' := 205) rfl rfl ?_
      refine jw_cV (st := []) (sa := [vR 24 v_14, vR 6 r2]) okX24_grouped rfl rfl rfl rfl rfl rfl (jstp_up (sa := [vR 6 r2]) (st := []) rfl (lw_g (jtb_mem (c := 11) (i := 168) rfl) rfl) um120 okX24_grouped g_15 (one24.k g_15) rfl rfl) w (fun h_20 _ _ w => ?_)
      exact w_X40_column_208 hK91 hK135 w
def L_X40_column_135 (D : JD) (d : Nat) (Q : JO → JH → Prop) (K91 : Nat → Nat → Nat → Int32 → Int32 → JH → Prop) : Nat → Nat → Nat → Nat → Int32 → Int32 → Int32 → JH → Prop
  | 0 => fun _ _ _ _ _ _ _ => False
  | n + 1 => fun r0 r1 r2 x3 x4 x5 h => W_X40_column_135 D d Q K91 (L_X40_column_135 D d Q K91 n) r0 r1 r2 x3 x4 x5 h
theorem l_X40_column_135 {D : JD} {d : Nat} {Q : JO → JH → Prop} {K91 : Nat → Nat → Nat → Int32 → Int32 → JH → Prop} (hK91 : ∀ (r0 : Nat) (r1 : Nat) (r2 : Nat) (x3 : Int32) (x4 : Int32) (h : JH), K91 r0 r1 r2 x3 x4 h → JW D (d + 1) mX40_column 91 [some (vR 33 r0), some (vR 34 r1), some (vR 6 r2), some (vI x3), some (vI x4), none, none] [] h Q) : ∀ (n : Nat) (r0 : Nat) (r1 : Nat) (r2 : Nat) (x3 : Int32) (x4 : Int32) (x5 : Int32) (h : JH), L_X40_column_135 D d Q K91 n r0 r1 r2 x3 x4 x5 h → JW D (d + 1) mX40_column 135 [some (vR 33 r0), some (vR 34 r1), some (vR 6 r2), some (vI x3), some (vI x4), some (vI x5), none] [] h Q := by
  intro n
  induction n with
  | zero => intro _ _ _ _ _ _ _ w; exact w.elim
  | succ n ih => intro _ _ _ _ _ _ h w; exact w_X40_column_135 hK91 ih w
def W_X40_column_130 (D : JD) (d : Nat) (Q : JO → JH → Prop) (K91 : Nat → Nat → Nat → Int32 → Int32 → JH → Prop) (r0 : Nat) (r1 : Nat) (r2 : Nat) (x4 : Int32) (h : JH) : Prop :=
  ∃ n, L_X40_column_135 D d Q K91 n r0 r1 r2 (1 : Int32) x4 (0 : Int32) h
theorem w_X40_column_130 {D : JD} {d : Nat} {Q : JO → JH → Prop} {K91 : Nat → Nat → Nat → Int32 → Int32 → JH → Prop} {r0 : Nat} {r1 : Nat} {r2 : Nat} {x4 : Int32} {h : JH} (hK91 : ∀ (r0 : Nat) (r1 : Nat) (r2 : Nat) (x3 : Int32) (x4 : Int32) (h : JH), K91 r0 r1 r2 x3 x4 h → JW D (d + 1) mX40_column 91 [some (vR 33 r0), some (vR 34 r1), some (vR 6 r2), some (vI x3), some (vI x4), none, none] [] h Q) (w : W_X40_column_130 D d Q K91 r0 r1 r2 x4 h) : JW D (d + 1) mX40_column 130 [some (vR 33 r0), some (vR 34 r1), some (vR 6 r2), none, some (vI x4), none, none] [] h Q := by
  unfold W_X40_column_130 at w
  refine jw_iconst (pc' := 131) (x := (1 : Int32)) rfl rfl ?_
  refine jw_istore_n (pc' := 132) (ls' := [some (vR 33 r0), some (vR 34 r1), some (vR 6 r2), some (vI (1 : Int32)), some (vI x4), none, none]) rfl (by decide) rfl ?_
  refine jw_iconst (pc' := 133) (x := (0 : Int32)) rfl rfl ?_
  refine jw_istore (pc' := 135) (ls' := [some (vR 33 r0), some (vR 34 r1), some (vR 6 r2), some (vI (1 : Int32)), some (vI x4), some (vI (0 : Int32)), none]) rfl (by decide) rfl ?_
  obtain ⟨n, w⟩ := w
  exact l_X40_column_135 hK91 n _ _ _ _ _ _ _ w
def W_X40_column_91 (D : JD) (d : Nat) (Q : JO → JH → Prop) (K91 : Nat → Nat → Nat → Int32 → Int32 → JH → Prop) (r0 : Nat) (r1 : Nat) (r2 : Nat) (x3 : Int32) (x4 : Int32) (h : JH) : Prop :=
  r0 ≠ 0 ∧ (((jfi h 145 r0) ≤ x4 → (¬ x3 = 0 → Q (.inl none) h) ∧ (x3 = 0 → cX1_fault D d (jcs D 181) h (pR D h 9 (fun v_6 h_4 => v_6 ≠ 0 ∧ (Q (.inr v_6) h_4)) (jth Q)))) ∧ (¬ (jfi h 145 r0) ≤ x4 → r1 ≠ 0 ∧ (((jfr h 162 r1) = 0 → W_X40_column_130 D d Q K91 r0 r1 r2 x4 h) ∧ ((jfr h 162 r1) ≠ 0 → (jfr h 144 r0) ≠ 0 ∧ jin x4 (jln h (jfr h 144 r0)) ∧ ((jar h (jfr h 144 r0) (ixn x4)) ≠ 0 ∧ ((jfr h 136 (jar h (jfr h 144 r0) (ixn x4))) ≠ 0 ∧ (cJ5_equals D d (jfr h 136 (jar h (jfr h 144 r0) (ixn x4))) (jfr h 162 r1) h (pI D h (fun v_16 h_14 => (¬ v_16 = 0 → W_X40_column_130 D d Q K91 r0 r1 r2 x4 h_14) ∧ (v_16 = 0 → W_X40_column_225 D d Q K91 r0 r1 r2 x3 x4 h_14)) (jth Q)))))))))
theorem w_X40_column_91 {D : JD} {d : Nat} {Q : JO → JH → Prop} {K91 : Nat → Nat → Nat → Int32 → Int32 → JH → Prop} {r0 : Nat} {r1 : Nat} {r2 : Nat} {x3 : Int32} {x4 : Int32} {h : JH} (hK91 : ∀ (r0 : Nat) (r1 : Nat) (r2 : Nat) (x3 : Int32) (x4 : Int32) (h : JH), K91 r0 r1 r2 x3 x4 h → JW D (d + 1) mX40_column 91 [some (vR 33 r0), some (vR 34 r1), some (vR 6 r2), some (vI x3), some (vI x4), none, none] [] h Q) (w : W_X40_column_91 D d Q K91 r0 r1 r2 x3 x4 h) : JW D (d + 1) mX40_column 91 [some (vR 33 r0), some (vR 34 r1), some (vR 6 r2), some (vI x3), some (vI x4), none, none] [] h Q := by
  unfold W_X40_column_91 at w
  refine jw_iload (pc' := 93) rfl rfl ?_
  refine jw_aload_n (pc' := 94) rfl rfl ?_
  obtain ⟨g_1, w⟩ := w
  refine jw_getI (pc' := 97) (F := 145) rfl rfl rfl rfl g_1 ?_
  refine jw_icmp_ge (tgt := 231) (pc' := 100) rfl rfl (fun c_2 => ?_) (fun c_2 => ?_)
  · replace w := w.1 c_2
    refine jw_iload_n (pc' := 232) rfl rfl ?_
    refine jw_if_ne (tgt := 241) (pc' := 235) rfl rfl (fun c_3 => ?_) (fun c_3 => ?_)
    · replace w := w.1 c_3
      exact jw_return rfl rfl w
    · replace w := w.2 c_3
      refine jw_ldcS (pc' := 237) rfl rfl rfl rfl ?_
      refine jw_cR (st := []) (sa := [vR 51 (jcs D 181)]) okX1_fault rfl rfl rfl rfl rfl rfl (jstp_static (sa := [vR 51 (jcs D 181)]) (st := []) rfl rfl sX1_fault okX1_fault rfl rfl) w (fun v_6 h_4 _ _ _ w => ?_)
      obtain ⟨g_7, w⟩ := w
      exact jw_athrow rfl rfl g_7 w
  · replace w := w.2 c_2
    refine jw_aload_n (pc' := 101) rfl rfl ?_
    obtain ⟨g_8, w⟩ := w
    refine jw_getR (pc' := 104) (F := 162) (t' := 64) rfl rfl rfl rfl rfl g_8 ?_
    refine jw_ifnull (tgt := 130) (pc' := 107) rfl rfl (fun c_9 => ?_) (fun c_9 => ?_)
    · replace w := w.1 c_9
      refine jw_gen (ls' := [some (vR 33 r0), some (vR 34 r1), some (vR 6 r2), none, some (vI x4), none, none]) (st' := []) (And.intro (Or.inl rfl) (And.intro (Or.inl rfl) (And.intro (Or.inl rfl) (And.intro (Or.inl rfl) (trivial))))) (trivial) ?_
      exact w_X40_column_130 hK91 w
    · replace w := w.2 c_9
      refine jw_aload_n (pc' := 108) rfl rfl ?_
      refine jw_getR (pc' := 111) (F := 144) (t' := 153) rfl rfl rfl rfl rfl g_1 ?_
      refine jw_iload (pc' := 113) rfl rfl ?_
      obtain ⟨g_10, w⟩ := w
      obtain ⟨g_11, w⟩ := w
      refine jw_aald (pc' := 114) (t' := 31) rfl rfl rfl rfl g_10 g_11.ix g_11.2 ?_
      obtain ⟨g_12, w⟩ := w
      refine jw_getR (pc' := 117) (F := 136) (t' := 64) rfl rfl rfl rfl rfl g_12 ?_
      refine jw_aload_n (pc' := 118) rfl rfl ?_
      refine jw_getR (pc' := 121) (F := 162) (t' := 64) rfl rfl rfl rfl rfl g_8 ?_
      obtain ⟨g_13, w⟩ := w
      refine jw_cI (st := []) (sa := [vR 64 (jfr h 136 (jar h (jfr h 144 r0) (ixn x4))), vR 64 (jfr h 162 r1)]) okJ5_equals rfl rfl rfl rfl rfl rfl (jstp_virtual (sa := [vR 64 (jfr h 162 r1)]) (st := []) (k := 0) rfl rfl sJ5_equals okJ5_equals g_13 (one64.k g_13) rfl rfl) w (fun v_16 h_14 _ _ w => ?_)
      refine jw_if_ne (tgt := 130) (pc' := 127) rfl rfl (fun c_17 => ?_) (fun c_17 => ?_)
      · replace w := w.1 c_17
        refine jw_gen (ls' := [some (vR 33 r0), some (vR 34 r1), some (vR 6 r2), none, some (vI x4), none, none]) (st' := []) (And.intro (Or.inl rfl) (And.intro (Or.inl rfl) (And.intro (Or.inl rfl) (And.intro (Or.inl rfl) (trivial))))) (trivial) ?_
        exact w_X40_column_130 hK91 w
      · replace w := w.2 c_17
        refine jw_goto (pc' := 225) rfl rfl ?_
        exact w_X40_column_225 hK91 w
def L_X40_column_91 (D : JD) (d : Nat) (Q : JO → JH → Prop) : Nat → Nat → Nat → Nat → Int32 → Int32 → JH → Prop
  | 0 => fun _ _ _ _ _ _ => False
  | n + 1 => fun r0 r1 r2 x3 x4 h => W_X40_column_91 D d Q (L_X40_column_91 D d Q n) r0 r1 r2 x3 x4 h
theorem l_X40_column_91 {D : JD} {d : Nat} {Q : JO → JH → Prop} : ∀ (n : Nat) (r0 : Nat) (r1 : Nat) (r2 : Nat) (x3 : Int32) (x4 : Int32) (h : JH), L_X40_column_91 D d Q n r0 r1 r2 x3 x4 h → JW D (d + 1) mX40_column 91 [some (vR 33 r0), some (vR 34 r1), some (vR 6 r2), some (vI x3), some (vI x4), none, none] [] h Q := by
  intro n
  induction n with
  | zero => intro _ _ _ _ _ _ w; exact w.elim
  | succ n ih => intro _ _ _ _ _ h w; exact w_X40_column_91 ih w
def W_X40_column_86 (D : JD) (d : Nat) (Q : JO → JH → Prop) (r0 : Nat) (r1 : Nat) (r2 : Nat) (h : JH) : Prop :=
  ∃ n, L_X40_column_91 D d Q n r0 r1 r2 (0 : Int32) (0 : Int32) h
theorem w_X40_column_86 {D : JD} {d : Nat} {Q : JO → JH → Prop} {r0 : Nat} {r1 : Nat} {r2 : Nat} {h : JH} (w : W_X40_column_86 D d Q r0 r1 r2 h) : JW D (d + 1) mX40_column 86 [some (vR 33 r0), some (vR 34 r1), some (vR 6 r2), none, none, none, none] [] h Q := by
  unfold W_X40_column_86 at w
  refine jw_iconst (pc' := 87) (x := (0 : Int32)) rfl rfl ?_
  refine jw_istore_n (pc' := 88) (ls' := [some (vR 33 r0), some (vR 34 r1), some (vR 6 r2), some (vI (0 : Int32)), none, none, none]) rfl (by decide) rfl ?_
  refine jw_iconst (pc' := 89) (x := (0 : Int32)) rfl rfl ?_
  refine jw_istore (pc' := 91) (ls' := [some (vR 33 r0), some (vR 34 r1), some (vR 6 r2), some (vI (0 : Int32)), some (vI (0 : Int32)), none, none]) rfl (by decide) rfl ?_
  obtain ⟨n, w⟩ := w
  exact l_X40_column_91 n _ _ _ _ _ _ w
def W_X40_column_57 (D : JD) (d : Nat) (Q : JO → JH → Prop) (q0 : Nat) (q1 : Nat) (q2 : Nat) (h : JH) : Prop :=
  q0 ≠ 0 ∧ (cX40_add D d q0 q1 q2 h (pV D h (fun h_2 => Q (.inl none) h_2) (jth Q)))
theorem w_X40_column_57 {D : JD} {d : Nat} {Q : JO → JH → Prop} {q0 : Nat} {q1 : Nat} {q2 : Nat} {h : JH} (w : W_X40_column_57 D d Q q0 q1 q2 h) : JW D (d + 1) mX40_column 57 [none, none, none, none, none, none, none] [vR 64 q2, vR 55 q1, vR 33 q0] h Q := by
  unfold W_X40_column_57 at w
  obtain ⟨g_1, w⟩ := w
  refine jw_cV (st := []) (sa := [vR 33 q0, vR 55 q1, vR 64 q2]) okX40_add rfl rfl rfl rfl rfl rfl (jstp_virtual (sa := [vR 55 q1, vR 64 q2]) (st := []) (k := 0) rfl rfl sX40_add okX40_add g_1 (one33.k g_1) rfl rfl) w (fun h_2 _ _ w => ?_)
  exact jw_return rfl rfl w
def W_X40_column_50 (D : JD) (d : Nat) (Q : JO → JH → Prop) (q0 : Nat) (q1 : Nat) (q2 : Nat) (h : JH) : Prop :=
  W_X40_column_57 D d Q q0 q1 q2 h
theorem w_X40_column_50 {D : JD} {d : Nat} {Q : JO → JH → Prop} {q0 : Nat} {q1 : Nat} {q2 : Nat} {h : JH} (w : W_X40_column_50 D d Q q0 q1 q2 h) : JW D (d + 1) mX40_column 50 [none, none, none, none, none, none, none] [vR 64 q2, vR 55 q1, vR 33 q0] h Q := by
  unfold W_X40_column_50 at w
  refine jw_goto (pc' := 57) rfl rfl ?_
  exact w_X40_column_57 w
def W_X40_column_31 (D : JD) (d : Nat) (Q : JO → JH → Prop) (r0 : Nat) (r1 : Nat) (h : JH) : Prop :=
  r1 ≠ 0 ∧ (((jfr h 164 r1) ≠ 0 → W_X40_column_57 D d Q r0 (jfr h 163 r1) (jfr h 164 r1) h) ∧ ((jfr h 164 r1) = 0 → (jfr h 163 r1) ≠ 0 ∧ (v55_title D d (jfr h 163 r1) h (pR D h 64 (fun v_6 h_4 => W_X40_column_50 D d Q r0 (jfr h 163 r1) v_6 h_4) (jth Q)))))
theorem w_X40_column_31 {D : JD} {d : Nat} {Q : JO → JH → Prop} {r0 : Nat} {r1 : Nat} {h : JH} (w : W_X40_column_31 D d Q r0 r1 h) : JW D (d + 1) mX40_column 31 [some (vR 33 r0), some (vR 34 r1), none, none, none, none, none] [] h Q := by
  unfold W_X40_column_31 at w
  refine jw_aload_n (pc' := 32) rfl rfl ?_
  refine jw_aload_n (pc' := 33) rfl rfl ?_
  obtain ⟨g_1, w⟩ := w
  refine jw_getR (pc' := 36) (F := 163) (t' := 55) rfl rfl rfl rfl rfl g_1 ?_
  refine jw_aload_n (pc' := 37) rfl rfl ?_
  refine jw_getR (pc' := 40) (F := 164) (t' := 64) rfl rfl rfl rfl rfl g_1 ?_
  refine jw_ifnonnull (tgt := 53) (pc' := 43) rfl rfl (fun c_2 => ?_) (fun c_2 => ?_)
  · replace w := w.1 c_2
    refine jw_aload_n (pc' := 54) rfl rfl ?_
    refine jw_getR (pc' := 57) (F := 164) (t' := 64) rfl rfl rfl rfl rfl g_1 ?_
    refine jw_gen (ls' := [none, none, none, none, none, none, none]) (st' := [vR 64 (jfr h 164 r1), vR 55 (jfr h 163 r1), vR 33 r0]) (trivial) (And.intro (Or.inl rfl) (And.intro (Or.inl rfl) (And.intro (Or.inl rfl) (trivial)))) ?_
    exact w_X40_column_57 w
  · replace w := w.2 c_2
    refine jw_aload_n (pc' := 44) rfl rfl ?_
    refine jw_getR (pc' := 47) (F := 163) (t' := 55) rfl rfl rfl rfl rfl g_1 ?_
    obtain ⟨g_3, w⟩ := w
    refine JW.inv (fun hI => JW.oks (fun ho => ?_))
    have hkd := und55.k hI (ho (vR 55 (jfr h 163 r1)) (by simp)) g_3
    simp only [List.mem_cons, List.not_mem_nil, or_false] at hkd
    clear ho hI
    rcases hkd with e_7 | e_7 | e_7 | e_7 | e_7 | e_7 | e_7 | e_7 | e_7 | e_7
    · refine jw_cR (st := [vR 55 (jfr h 163 r1), vR 33 r0]) (sa := [vR 55 (jfr h 163 r1)]) okX24_title rfl rfl rfl rfl rfl rfl (jstp_up (sa := []) (st := [vR 55 (jfr h 163 r1), vR 33 r0]) rfl (lw_g (jtb_mem (c := 11) (i := 129) rfl) rfl) um121 okX24_title g_3 (fun _ _ => by rw [e_7]; exact ⟨rfl, rfl⟩) rfl rfl) (w.1 e_7) (fun v_6 h_4 _ _ _ w => ?_)
      refine jw_gen (ls' := [none, none, none, none, none, none, none]) (st' := [vR 64 v_6, vR 55 (jfr h 163 r1), vR 33 r0]) (trivial) (And.intro (Or.inl rfl) (And.intro (Or.inl rfl) (And.intro (Or.inl rfl) (trivial)))) ?_
      exact w_X40_column_50 w
    · refine jw_gen (ls' := _) (st' := [vR 21 (jfr h 163 r1), vR 55 (jfr h 163 r1), vR 33 r0]) (jgl_rf _ _) (And.intro (Or.inr ⟨_, _, _, rfl, rfl, Or.inr (Or.inr (by rw [e_7]; rfl))⟩) (jgs_rf _ _)) ?_
      refine jw_cR (st := [vR 55 (jfr h 163 r1), vR 33 r0]) (sa := [vR 21 (jfr h 163 r1)]) okX27_title rfl rfl rfl rfl rfl rfl (jstp_up (sa := []) (st := [vR 55 (jfr h 163 r1), vR 33 r0]) rfl (lw_g (jtb_mem (c := 11) (i := 129) rfl) rfl) um122 okX27_title g_3 (fun _ _ => by rw [e_7]; exact ⟨rfl, rfl⟩) rfl rfl) (w.2.1 e_7) (fun v_6 h_4 _ _ _ w => ?_)
      refine jw_gen (ls' := [none, none, none, none, none, none, none]) (st' := [vR 64 v_6, vR 55 (jfr h 163 r1), vR 33 r0]) (trivial) (And.intro (Or.inl rfl) (And.intro (Or.inl rfl) (And.intro (Or.inl rfl) (trivial)))) ?_
      exact w_X40_column_50 w
    · refine jw_gen (ls' := _) (st' := [vR 22 (jfr h 163 r1), vR 55 (jfr h 163 r1), vR 33 r0]) (jgl_rf _ _) (And.intro (Or.inr ⟨_, _, _, rfl, rfl, Or.inr (Or.inr (by rw [e_7]; rfl))⟩) (jgs_rf _ _)) ?_
      refine jw_cR (st := [vR 55 (jfr h 163 r1), vR 33 r0]) (sa := [vR 22 (jfr h 163 r1)]) okX28_title rfl rfl rfl rfl rfl rfl (jstp_up (sa := []) (st := [vR 55 (jfr h 163 r1), vR 33 r0]) rfl (lw_g (jtb_mem (c := 11) (i := 129) rfl) rfl) um123 okX28_title g_3 (fun _ _ => by rw [e_7]; exact ⟨rfl, rfl⟩) rfl rfl) (w.2.2.1 e_7) (fun v_6 h_4 _ _ _ w => ?_)
      refine jw_gen (ls' := [none, none, none, none, none, none, none]) (st' := [vR 64 v_6, vR 55 (jfr h 163 r1), vR 33 r0]) (trivial) (And.intro (Or.inl rfl) (And.intro (Or.inl rfl) (And.intro (Or.inl rfl) (trivial)))) ?_
      exact w_X40_column_50 w
    · refine jw_gen (ls' := _) (st' := [vR 23 (jfr h 163 r1), vR 55 (jfr h 163 r1), vR 33 r0]) (jgl_rf _ _) (And.intro (Or.inr ⟨_, _, _, rfl, rfl, Or.inr (Or.inr (by rw [e_7]; rfl))⟩) (jgs_rf _ _)) ?_
      refine jw_cR (st := [vR 55 (jfr h 163 r1), vR 33 r0]) (sa := [vR 23 (jfr h 163 r1)]) okX29_title rfl rfl rfl rfl rfl rfl (jstp_up (sa := []) (st := [vR 55 (jfr h 163 r1), vR 33 r0]) rfl (lw_g (jtb_mem (c := 11) (i := 129) rfl) rfl) um124 okX29_title g_3 (fun _ _ => by rw [e_7]; exact ⟨rfl, rfl⟩) rfl rfl) (w.2.2.2.1 e_7) (fun v_6 h_4 _ _ _ w => ?_)
      refine jw_gen (ls' := [none, none, none, none, none, none, none]) (st' := [vR 64 v_6, vR 55 (jfr h 163 r1), vR 33 r0]) (trivial) (And.intro (Or.inl rfl) (And.intro (Or.inl rfl) (And.intro (Or.inl rfl) (trivial)))) ?_
      exact w_X40_column_50 w
    · refine jw_gen (ls' := _) (st' := [vR 24 (jfr h 163 r1), vR 55 (jfr h 163 r1), vR 33 r0]) (jgl_rf _ _) (And.intro (Or.inr ⟨_, _, _, rfl, rfl, Or.inr (Or.inr (by rw [e_7]; rfl))⟩) (jgs_rf _ _)) ?_
      refine jw_cR (st := [vR 55 (jfr h 163 r1), vR 33 r0]) (sa := [vR 24 (jfr h 163 r1)]) okX30_title rfl rfl rfl rfl rfl rfl (jstp_up (sa := []) (st := [vR 55 (jfr h 163 r1), vR 33 r0]) rfl (lw_g (jtb_mem (c := 11) (i := 129) rfl) rfl) um125 okX30_title g_3 (fun _ _ => by rw [e_7]; exact ⟨rfl, rfl⟩) rfl rfl) (w.2.2.2.2.1 e_7) (fun v_6 h_4 _ _ _ w => ?_)
      refine jw_gen (ls' := [none, none, none, none, none, none, none]) (st' := [vR 64 v_6, vR 55 (jfr h 163 r1), vR 33 r0]) (trivial) (And.intro (Or.inl rfl) (And.intro (Or.inl rfl) (And.intro (Or.inl rfl) (trivial)))) ?_
      exact w_X40_column_50 w
    · refine jw_cR (st := [vR 55 (jfr h 163 r1), vR 33 r0]) (sa := [vR 55 (jfr h 163 r1)]) okX24_title rfl rfl rfl rfl rfl rfl (jstp_up (sa := []) (st := [vR 55 (jfr h 163 r1), vR 33 r0]) rfl (lw_g (jtb_mem (c := 11) (i := 129) rfl) rfl) um126 okX24_title g_3 (fun _ _ => by rw [e_7]; exact ⟨rfl, rfl⟩) rfl rfl) (w.2.2.2.2.2.1 e_7) (fun v_6 h_4 _ _ _ w => ?_)
      refine jw_gen (ls' := [none, none, none, none, none, none, none]) (st' := [vR 64 v_6, vR 55 (jfr h 163 r1), vR 33 r0]) (trivial) (And.intro (Or.inl rfl) (And.intro (Or.inl rfl) (And.intro (Or.inl rfl) (trivial)))) ?_
      exact w_X40_column_50 w
    · refine jw_cR (st := [vR 55 (jfr h 163 r1), vR 33 r0]) (sa := [vR 55 (jfr h 163 r1)]) okX24_title rfl rfl rfl rfl rfl rfl (jstp_up (sa := []) (st := [vR 55 (jfr h 163 r1), vR 33 r0]) rfl (lw_g (jtb_mem (c := 11) (i := 129) rfl) rfl) um127 okX24_title g_3 (fun _ _ => by rw [e_7]; exact ⟨rfl, rfl⟩) rfl rfl) (w.2.2.2.2.2.2.1 e_7) (fun v_6 h_4 _ _ _ w => ?_)
      refine jw_gen (ls' := [none, none, none, none, none, none, none]) (st' := [vR 64 v_6, vR 55 (jfr h 163 r1), vR 33 r0]) (trivial) (And.intro (Or.inl rfl) (And.intro (Or.inl rfl) (And.intro (Or.inl rfl) (trivial)))) ?_
      exact w_X40_column_50 w
    · refine jw_cR (st := [vR 55 (jfr h 163 r1), vR 33 r0]) (sa := [vR 55 (jfr h 163 r1)]) okX24_title rfl rfl rfl rfl rfl rfl (jstp_up (sa := []) (st := [vR 55 (jfr h 163 r1), vR 33 r0]) rfl (lw_g (jtb_mem (c := 11) (i := 129) rfl) rfl) um128 okX24_title g_3 (fun _ _ => by rw [e_7]; exact ⟨rfl, rfl⟩) rfl rfl) (w.2.2.2.2.2.2.2.1 e_7) (fun v_6 h_4 _ _ _ w => ?_)
      refine jw_gen (ls' := [none, none, none, none, none, none, none]) (st' := [vR 64 v_6, vR 55 (jfr h 163 r1), vR 33 r0]) (trivial) (And.intro (Or.inl rfl) (And.intro (Or.inl rfl) (And.intro (Or.inl rfl) (trivial)))) ?_
      exact w_X40_column_50 w
    · refine jw_cR (st := [vR 55 (jfr h 163 r1), vR 33 r0]) (sa := [vR 55 (jfr h 163 r1)]) okX24_title rfl rfl rfl rfl rfl rfl (jstp_up (sa := []) (st := [vR 55 (jfr h 163 r1), vR 33 r0]) rfl (lw_g (jtb_mem (c := 11) (i := 129) rfl) rfl) um129 okX24_title g_3 (fun _ _ => by rw [e_7]; exact ⟨rfl, rfl⟩) rfl rfl) (w.2.2.2.2.2.2.2.2.1 e_7) (fun v_6 h_4 _ _ _ w => ?_)
      refine jw_gen (ls' := [none, none, none, none, none, none, none]) (st' := [vR 64 v_6, vR 55 (jfr h 163 r1), vR 33 r0]) (trivial) (And.intro (Or.inl rfl) (And.intro (Or.inl rfl) (And.intro (Or.inl rfl) (trivial)))) ?_
      exact w_X40_column_50 w
    · refine jw_cR (st := [vR 55 (jfr h 163 r1), vR 33 r0]) (sa := [vR 55 (jfr h 163 r1)]) okX24_title rfl rfl rfl rfl rfl rfl (jstp_up (sa := []) (st := [vR 55 (jfr h 163 r1), vR 33 r0]) rfl (lw_g (jtb_mem (c := 11) (i := 129) rfl) rfl) um130 okX24_title g_3 (fun _ _ => by rw [e_7]; exact ⟨rfl, rfl⟩) rfl rfl) (w.2.2.2.2.2.2.2.2.2 e_7) (fun v_6 h_4 _ _ _ w => ?_)
      refine jw_gen (ls' := [none, none, none, none, none, none, none]) (st' := [vR 64 v_6, vR 55 (jfr h 163 r1), vR 33 r0]) (trivial) (And.intro (Or.inl rfl) (And.intro (Or.inl rfl) (And.intro (Or.inl rfl) (trivial)))) ?_
      exact w_X40_column_50 w
def W_X40_column_15 (D : JD) (d : Nat) (Q : JO → JH → Prop) (r0 : Nat) (r1 : Nat) (r2 : Nat) (q0 : Nat) (h : JH) : Prop :=
  r0 ≠ 0 ∧ (((jfi h 160 r0) = 0 → W_X40_column_31 D d Q r0 r1 h) ∧ (¬ (jfi h 160 r0) = 0 → r1 ≠ 0 ∧ ((jfr h 163 r1) ≠ 0 ∧ (cX24_grouped D d (jfr h 163 r1) r2 h (pV D h (fun h_5 => W_X40_column_31 D d Q r0 r1 h_5) (jth Q))))))
theorem w_X40_column_15 {D : JD} {d : Nat} {Q : JO → JH → Prop} {r0 : Nat} {r1 : Nat} {r2 : Nat} {q0 : Nat} {h : JH} (w : W_X40_column_15 D d Q r0 r1 r2 q0 h) : JW D (d + 1) mX40_column 15 [some (vR 33 r0), some (vR 34 r1), some (vR 6 r2), none, none, none, none] [vR 52 q0] h Q := by
  unfold W_X40_column_15 at w
  refine jw_pop (pc' := 16) rfl rfl ?_
  refine jw_aload_n (pc' := 17) rfl rfl ?_
  obtain ⟨g_1, w⟩ := w
  refine jw_getI (pc' := 20) (F := 160) rfl rfl rfl rfl g_1 ?_
  refine jw_if_eq (tgt := 31) (pc' := 23) rfl rfl (fun c_2 => ?_) (fun c_2 => ?_)
  · replace w := w.1 c_2
    refine jw_gen (ls' := [some (vR 33 r0), some (vR 34 r1), none, none, none, none, none]) (st' := []) (And.intro (Or.inl rfl) (And.intro (Or.inl rfl) (trivial))) (trivial) ?_
    exact w_X40_column_31 w
  · replace w := w.2 c_2
    refine jw_aload_n (pc' := 24) rfl rfl ?_
    obtain ⟨g_3, w⟩ := w
    refine jw_getR (pc' := 27) (F := 163) (t' := 55) rfl rfl rfl rfl rfl g_3 ?_
    refine jw_aload_n (pc' := 28) rfl rfl ?_
    obtain ⟨g_4, w⟩ := w
    refine JW.inv (fun hI => JW.oks (fun ho => ?_))
    have hkd := und55.k hI (ho (vR 55 (jfr h 163 r1)) (by simp)) g_4
    simp only [List.mem_cons, List.not_mem_nil, or_false] at hkd
    clear ho hI
    rcases hkd with e_8 | e_8 | e_8 | e_8 | e_8 | e_8 | e_8 | e_8 | e_8 | e_8
    · refine jw_cV (st := []) (sa := [vR 55 (jfr h 163 r1), vR 6 r2]) okX24_grouped rfl rfl rfl rfl rfl rfl (jstp_up (sa := [vR 6 r2]) (st := []) rfl (lw_g (jtb_mem (c := 11) (i := 13) rfl) rfl) um88 okX24_grouped g_4 (fun _ _ => by rw [e_8]; exact ⟨rfl, rfl⟩) rfl rfl) w (fun h_5 _ _ w => ?_)
      refine jw_gen (ls' := [some (vR 33 r0), some (vR 34 r1), none, none, none, none, none]) (st' := []) (And.intro (Or.inl rfl) (And.intro (Or.inl rfl) (trivial))) (trivial) ?_
      exact w_X40_column_31 w
    · refine jw_cV (st := []) (sa := [vR 55 (jfr h 163 r1), vR 6 r2]) okX24_grouped rfl rfl rfl rfl rfl rfl (jstp_up (sa := [vR 6 r2]) (st := []) rfl (lw_g (jtb_mem (c := 11) (i := 13) rfl) rfl) um89 okX24_grouped g_4 (fun _ _ => by rw [e_8]; exact ⟨rfl, rfl⟩) rfl rfl) w (fun h_5 _ _ w => ?_)
      refine jw_gen (ls' := [some (vR 33 r0), some (vR 34 r1), none, none, none, none, none]) (st' := []) (And.intro (Or.inl rfl) (And.intro (Or.inl rfl) (trivial))) (trivial) ?_
      exact w_X40_column_31 w
    · refine jw_cV (st := []) (sa := [vR 55 (jfr h 163 r1), vR 6 r2]) okX24_grouped rfl rfl rfl rfl rfl rfl (jstp_up (sa := [vR 6 r2]) (st := []) rfl (lw_g (jtb_mem (c := 11) (i := 13) rfl) rfl) um90 okX24_grouped g_4 (fun _ _ => by rw [e_8]; exact ⟨rfl, rfl⟩) rfl rfl) w (fun h_5 _ _ w => ?_)
      refine jw_gen (ls' := [some (vR 33 r0), some (vR 34 r1), none, none, none, none, none]) (st' := []) (And.intro (Or.inl rfl) (And.intro (Or.inl rfl) (trivial))) (trivial) ?_
      exact w_X40_column_31 w
    · refine jw_cV (st := []) (sa := [vR 55 (jfr h 163 r1), vR 6 r2]) okX24_grouped rfl rfl rfl rfl rfl rfl (jstp_up (sa := [vR 6 r2]) (st := []) rfl (lw_g (jtb_mem (c := 11) (i := 13) rfl) rfl) um91 okX24_grouped g_4 (fun _ _ => by rw [e_8]; exact ⟨rfl, rfl⟩) rfl rfl) w (fun h_5 _ _ w => ?_)
      refine jw_gen (ls' := [some (vR 33 r0), some (vR 34 r1), none, none, none, none, none]) (st' := []) (And.intro (Or.inl rfl) (And.intro (Or.inl rfl) (trivial))) (trivial) ?_
      exact w_X40_column_31 w
    · refine jw_cV (st := []) (sa := [vR 55 (jfr h 163 r1), vR 6 r2]) okX24_grouped rfl rfl rfl rfl rfl rfl (jstp_up (sa := [vR 6 r2]) (st := []) rfl (lw_g (jtb_mem (c := 11) (i := 13) rfl) rfl) um92 okX24_grouped g_4 (fun _ _ => by rw [e_8]; exact ⟨rfl, rfl⟩) rfl rfl) w (fun h_5 _ _ w => ?_)
      refine jw_gen (ls' := [some (vR 33 r0), some (vR 34 r1), none, none, none, none, none]) (st' := []) (And.intro (Or.inl rfl) (And.intro (Or.inl rfl) (trivial))) (trivial) ?_
      exact w_X40_column_31 w
    · refine jw_cV (st := []) (sa := [vR 55 (jfr h 163 r1), vR 6 r2]) okX24_grouped rfl rfl rfl rfl rfl rfl (jstp_up (sa := [vR 6 r2]) (st := []) rfl (lw_g (jtb_mem (c := 11) (i := 13) rfl) rfl) um93 okX24_grouped g_4 (fun _ _ => by rw [e_8]; exact ⟨rfl, rfl⟩) rfl rfl) w (fun h_5 _ _ w => ?_)
      refine jw_gen (ls' := [some (vR 33 r0), some (vR 34 r1), none, none, none, none, none]) (st' := []) (And.intro (Or.inl rfl) (And.intro (Or.inl rfl) (trivial))) (trivial) ?_
      exact w_X40_column_31 w
    · refine jw_cV (st := []) (sa := [vR 55 (jfr h 163 r1), vR 6 r2]) okX24_grouped rfl rfl rfl rfl rfl rfl (jstp_up (sa := [vR 6 r2]) (st := []) rfl (lw_g (jtb_mem (c := 11) (i := 13) rfl) rfl) um94 okX24_grouped g_4 (fun _ _ => by rw [e_8]; exact ⟨rfl, rfl⟩) rfl rfl) w (fun h_5 _ _ w => ?_)
      refine jw_gen (ls' := [some (vR 33 r0), some (vR 34 r1), none, none, none, none, none]) (st' := []) (And.intro (Or.inl rfl) (And.intro (Or.inl rfl) (trivial))) (trivial) ?_
      exact w_X40_column_31 w
    · refine jw_cV (st := []) (sa := [vR 55 (jfr h 163 r1), vR 6 r2]) okX24_grouped rfl rfl rfl rfl rfl rfl (jstp_up (sa := [vR 6 r2]) (st := []) rfl (lw_g (jtb_mem (c := 11) (i := 13) rfl) rfl) um95 okX24_grouped g_4 (fun _ _ => by rw [e_8]; exact ⟨rfl, rfl⟩) rfl rfl) w (fun h_5 _ _ w => ?_)
      refine jw_gen (ls' := [some (vR 33 r0), some (vR 34 r1), none, none, none, none, none]) (st' := []) (And.intro (Or.inl rfl) (And.intro (Or.inl rfl) (trivial))) (trivial) ?_
      exact w_X40_column_31 w
    · refine jw_cV (st := []) (sa := [vR 55 (jfr h 163 r1), vR 6 r2]) okX24_grouped rfl rfl rfl rfl rfl rfl (jstp_up (sa := [vR 6 r2]) (st := []) rfl (lw_g (jtb_mem (c := 11) (i := 13) rfl) rfl) um96 okX24_grouped g_4 (fun _ _ => by rw [e_8]; exact ⟨rfl, rfl⟩) rfl rfl) w (fun h_5 _ _ w => ?_)
      refine jw_gen (ls' := [some (vR 33 r0), some (vR 34 r1), none, none, none, none, none]) (st' := []) (And.intro (Or.inl rfl) (And.intro (Or.inl rfl) (trivial))) (trivial) ?_
      exact w_X40_column_31 w
    · refine jw_cV (st := []) (sa := [vR 55 (jfr h 163 r1), vR 6 r2]) okX24_grouped rfl rfl rfl rfl rfl rfl (jstp_up (sa := [vR 6 r2]) (st := []) rfl (lw_g (jtb_mem (c := 11) (i := 13) rfl) rfl) um97 okX24_grouped g_4 (fun _ _ => by rw [e_8]; exact ⟨rfl, rfl⟩) rfl rfl) w (fun h_5 _ _ w => ?_)
      refine jw_gen (ls' := [some (vR 33 r0), some (vR 34 r1), none, none, none, none, none]) (st' := []) (And.intro (Or.inl rfl) (And.intro (Or.inl rfl) (trivial))) (trivial) ?_
      exact w_X40_column_31 w
def W_X40_column_0 (D : JD) (d : Nat) (Q : JO → JH → Prop) (r0 : Nat) (r1 : Nat) (r2 : Nat) (h : JH) : Prop :=
  r1 ≠ 0 ∧ ((¬ (jfi h 161 r1) = 0 → r0 ≠ 0 ∧ ((¬ (jfi h 145 r0) = 0 → W_X40_column_86 D d Q r0 r1 r2 h) ∧ ((jfi h 145 r0) = 0 → ((jfr h 162 r1) ≠ 0 → W_X40_column_86 D d Q r0 r1 r2 h) ∧ ((jfr h 162 r1) = 0 → ∀ (r_6 : Nat) (h_7 : JH), r_6 = jsz h + 1 → h_7 = nwo h 9 8 → (cX16_init D d r_6 (jcs D 180) (0 : Int32) h_7 (pV D h_7 (fun h_10 => Q (.inr r_6) h_10) (jth Q))))))) ∧ ((jfi h 161 r1) = 0 → (jfr h 163 r1) ≠ 0 ∧ (v55_check D d (jfr h 163 r1) r2 h (pR D h 52 (fun v_16 h_14 => W_X40_column_15 D d Q r0 r1 r2 v_16 h_14) (jth Q)))))
theorem w_X40_column_0 {D : JD} {d : Nat} {Q : JO → JH → Prop} {r0 : Nat} {r1 : Nat} {r2 : Nat} {h : JH} (w : W_X40_column_0 D d Q r0 r1 r2 h) : JW D (d + 1) mX40_column 0 [some (vR 33 r0), some (vR 34 r1), some (vR 6 r2), none, none, none, none] [] h Q := by
  unfold W_X40_column_0 at w
  refine jw_aload_n (pc' := 1) rfl rfl ?_
  obtain ⟨g_1, w⟩ := w
  refine jw_getI (pc' := 4) (F := 161) rfl rfl rfl rfl g_1 ?_
  refine jw_if_ne (tgt := 61) (pc' := 7) rfl rfl (fun c_2 => ?_) (fun c_2 => ?_)
  · replace w := w.1 c_2
    refine jw_aload_n (pc' := 62) rfl rfl ?_
    obtain ⟨g_3, w⟩ := w
    refine jw_getI (pc' := 65) (F := 145) rfl rfl rfl rfl g_3 ?_
    refine jw_if_ne (tgt := 86) (pc' := 68) rfl rfl (fun c_4 => ?_) (fun c_4 => ?_)
    · replace w := w.1 c_4
      exact w_X40_column_86 w
    · replace w := w.2 c_4
      refine jw_aload_n (pc' := 69) rfl rfl ?_
      refine jw_getR (pc' := 72) (F := 162) (t' := 64) rfl rfl rfl rfl rfl g_1 ?_
      refine jw_ifnonnull (tgt := 86) (pc' := 75) rfl rfl (fun c_5 => ?_) (fun c_5 => ?_)
      · replace w := w.1 c_5
        exact w_X40_column_86 w
      · replace w := w.2 c_5
        refine jw_new' (pc' := 78) (k := 9) (n := 8) rfl rfl rfl rfl rfl rfl rfl (fun r_6 h_7 e_8 e_9 => ?_)
        replace w := w r_6 h_7 e_8 e_9
        refine jw_dup (pc' := 79) rfl rfl ?_
        refine jw_ldcS (pc' := 81) rfl rfl rfl rfl ?_
        refine jw_iconst (pc' := 82) (x := (0 : Int32)) rfl rfl ?_
        refine jw_cV (st := [vR 9 r_6]) (sa := [vR 9 r_6, vR 51 (jcs D 180), vI (0 : Int32)]) okX16_init rfl rfl rfl rfl rfl rfl (jstp_init (sa := [vR 51 (jcs D 180), vI (0 : Int32)]) (st := [vR 9 r_6]) rfl rfl sX16_init okX16_init (lw_g (jtb_mem (c := 3) (i := 64) rfl) rfl) (jnz e_8) rfl rfl) w (fun h_10 _ _ w => ?_)
        exact jw_athrow rfl rfl (jnz e_8) w
  · replace w := w.2 c_2
    refine jw_aload_n (pc' := 8) rfl rfl ?_
    refine jw_getR (pc' := 11) (F := 163) (t' := 55) rfl rfl rfl rfl rfl g_1 ?_
    refine jw_aload_n (pc' := 12) rfl rfl ?_
    obtain ⟨g_13, w⟩ := w
    refine JW.inv (fun hI => JW.oks (fun ho => ?_))
    have hkd := und55.k hI (ho (vR 55 (jfr h 163 r1)) (by simp)) g_13
    simp only [List.mem_cons, List.not_mem_nil, or_false] at hkd
    clear ho hI
    rcases hkd with e_17 | e_17 | e_17 | e_17 | e_17 | e_17 | e_17 | e_17 | e_17 | e_17
    · refine jw_gen (ls' := _) (st' := [vR 6 r2, vR 20 (jfr h 163 r1)]) (jgl_rf _ _) (And.intro (Or.inl rfl) (And.intro (Or.inr ⟨_, _, _, rfl, rfl, Or.inr (Or.inr (by rw [e_17]; rfl))⟩) (jgs_rf _ _))) ?_
      refine jw_cR (st := []) (sa := [vR 20 (jfr h 163 r1), vR 6 r2]) okX25_check rfl rfl rfl rfl rfl rfl (jstp_up (sa := [vR 6 r2]) (st := []) rfl (lw_g (jtb_mem (c := 10) (i := 190) rfl) rfl) um18 okX25_check g_13 (fun _ _ => by rw [e_17]; exact ⟨rfl, rfl⟩) rfl rfl) (w.1 e_17) (fun v_16 h_14 _ _ _ w => ?_)
      exact w_X40_column_15 w
    · refine jw_gen (ls' := _) (st' := [vR 6 r2, vR 21 (jfr h 163 r1)]) (jgl_rf _ _) (And.intro (Or.inl rfl) (And.intro (Or.inr ⟨_, _, _, rfl, rfl, Or.inr (Or.inr (by rw [e_17]; rfl))⟩) (jgs_rf _ _))) ?_
      refine jw_cR (st := []) (sa := [vR 21 (jfr h 163 r1), vR 6 r2]) okX27_check rfl rfl rfl rfl rfl rfl (jstp_up (sa := [vR 6 r2]) (st := []) rfl (lw_g (jtb_mem (c := 10) (i := 190) rfl) rfl) um19 okX27_check g_13 (fun _ _ => by rw [e_17]; exact ⟨rfl, rfl⟩) rfl rfl) (w.2.1 e_17) (fun v_16 h_14 _ _ _ w => ?_)
      exact w_X40_column_15 w
    · refine jw_gen (ls' := _) (st' := [vR 6 r2, vR 22 (jfr h 163 r1)]) (jgl_rf _ _) (And.intro (Or.inl rfl) (And.intro (Or.inr ⟨_, _, _, rfl, rfl, Or.inr (Or.inr (by rw [e_17]; rfl))⟩) (jgs_rf _ _))) ?_
      refine jw_cR (st := []) (sa := [vR 22 (jfr h 163 r1), vR 6 r2]) okX28_check rfl rfl rfl rfl rfl rfl (jstp_up (sa := [vR 6 r2]) (st := []) rfl (lw_g (jtb_mem (c := 10) (i := 190) rfl) rfl) um20 okX28_check g_13 (fun _ _ => by rw [e_17]; exact ⟨rfl, rfl⟩) rfl rfl) (w.2.2.1 e_17) (fun v_16 h_14 _ _ _ w => ?_)
      exact w_X40_column_15 w
    · refine jw_gen (ls' := _) (st' := [vR 6 r2, vR 23 (jfr h 163 r1)]) (jgl_rf _ _) (And.intro (Or.inl rfl) (And.intro (Or.inr ⟨_, _, _, rfl, rfl, Or.inr (Or.inr (by rw [e_17]; rfl))⟩) (jgs_rf _ _))) ?_
      refine jw_cR (st := []) (sa := [vR 23 (jfr h 163 r1), vR 6 r2]) okX29_check rfl rfl rfl rfl rfl rfl (jstp_up (sa := [vR 6 r2]) (st := []) rfl (lw_g (jtb_mem (c := 10) (i := 190) rfl) rfl) um21 okX29_check g_13 (fun _ _ => by rw [e_17]; exact ⟨rfl, rfl⟩) rfl rfl) (w.2.2.2.1 e_17) (fun v_16 h_14 _ _ _ w => ?_)
      exact w_X40_column_15 w
    · refine jw_gen (ls' := _) (st' := [vR 6 r2, vR 24 (jfr h 163 r1)]) (jgl_rf _ _) (And.intro (Or.inl rfl) (And.intro (Or.inr ⟨_, _, _, rfl, rfl, Or.inr (Or.inr (by rw [e_17]; rfl))⟩) (jgs_rf _ _))) ?_
      refine jw_cR (st := []) (sa := [vR 24 (jfr h 163 r1), vR 6 r2]) okX30_check rfl rfl rfl rfl rfl rfl (jstp_up (sa := [vR 6 r2]) (st := []) rfl (lw_g (jtb_mem (c := 10) (i := 190) rfl) rfl) um22 okX30_check g_13 (fun _ _ => by rw [e_17]; exact ⟨rfl, rfl⟩) rfl rfl) (w.2.2.2.2.1 e_17) (fun v_16 h_14 _ _ _ w => ?_)
      exact w_X40_column_15 w
    · refine jw_gen (ls' := _) (st' := [vR 6 r2, vR 25 (jfr h 163 r1)]) (jgl_rf _ _) (And.intro (Or.inl rfl) (And.intro (Or.inr ⟨_, _, _, rfl, rfl, Or.inr (Or.inr (by rw [e_17]; rfl))⟩) (jgs_rf _ _))) ?_
      refine jw_cR (st := []) (sa := [vR 25 (jfr h 163 r1), vR 6 r2]) okX31_check rfl rfl rfl rfl rfl rfl (jstp_up (sa := [vR 6 r2]) (st := []) rfl (lw_g (jtb_mem (c := 10) (i := 190) rfl) rfl) um23 okX31_check g_13 (fun _ _ => by rw [e_17]; exact ⟨rfl, rfl⟩) rfl rfl) (w.2.2.2.2.2.1 e_17) (fun v_16 h_14 _ _ _ w => ?_)
      exact w_X40_column_15 w
    · refine jw_gen (ls' := _) (st' := [vR 6 r2, vR 26 (jfr h 163 r1)]) (jgl_rf _ _) (And.intro (Or.inl rfl) (And.intro (Or.inr ⟨_, _, _, rfl, rfl, Or.inr (Or.inr (by rw [e_17]; rfl))⟩) (jgs_rf _ _))) ?_
      refine jw_cR (st := []) (sa := [vR 26 (jfr h 163 r1), vR 6 r2]) okX32_check rfl rfl rfl rfl rfl rfl (jstp_up (sa := [vR 6 r2]) (st := []) rfl (lw_g (jtb_mem (c := 10) (i := 190) rfl) rfl) um24 okX32_check g_13 (fun _ _ => by rw [e_17]; exact ⟨rfl, rfl⟩) rfl rfl) (w.2.2.2.2.2.2.1 e_17) (fun v_16 h_14 _ _ _ w => ?_)
      exact w_X40_column_15 w
    · refine jw_gen (ls' := _) (st' := [vR 6 r2, vR 27 (jfr h 163 r1)]) (jgl_rf _ _) (And.intro (Or.inl rfl) (And.intro (Or.inr ⟨_, _, _, rfl, rfl, Or.inr (Or.inr (by rw [e_17]; rfl))⟩) (jgs_rf _ _))) ?_
      refine jw_cR (st := []) (sa := [vR 27 (jfr h 163 r1), vR 6 r2]) okX33_check rfl rfl rfl rfl rfl rfl (jstp_up (sa := [vR 6 r2]) (st := []) rfl (lw_g (jtb_mem (c := 10) (i := 190) rfl) rfl) um25 okX33_check g_13 (fun _ _ => by rw [e_17]; exact ⟨rfl, rfl⟩) rfl rfl) (w.2.2.2.2.2.2.2.1 e_17) (fun v_16 h_14 _ _ _ w => ?_)
      exact w_X40_column_15 w
    · refine jw_gen (ls' := _) (st' := [vR 6 r2, vR 28 (jfr h 163 r1)]) (jgl_rf _ _) (And.intro (Or.inl rfl) (And.intro (Or.inr ⟨_, _, _, rfl, rfl, Or.inr (Or.inr (by rw [e_17]; rfl))⟩) (jgs_rf _ _))) ?_
      refine jw_cR (st := []) (sa := [vR 28 (jfr h 163 r1), vR 6 r2]) okX34_check rfl rfl rfl rfl rfl rfl (jstp_up (sa := [vR 6 r2]) (st := []) rfl (lw_g (jtb_mem (c := 10) (i := 190) rfl) rfl) um26 okX34_check g_13 (fun _ _ => by rw [e_17]; exact ⟨rfl, rfl⟩) rfl rfl) (w.2.2.2.2.2.2.2.2.1 e_17) (fun v_16 h_14 _ _ _ w => ?_)
      exact w_X40_column_15 w
    · refine jw_gen (ls' := _) (st' := [vR 6 r2, vR 29 (jfr h 163 r1)]) (jgl_rf _ _) (And.intro (Or.inl rfl) (And.intro (Or.inr ⟨_, _, _, rfl, rfl, Or.inr (Or.inr (by rw [e_17]; rfl))⟩) (jgs_rf _ _))) ?_
      refine jw_cR (st := []) (sa := [vR 29 (jfr h 163 r1), vR 6 r2]) okX35_check rfl rfl rfl rfl rfl rfl (jstp_up (sa := [vR 6 r2]) (st := []) rfl (lw_g (jtb_mem (c := 10) (i := 190) rfl) rfl) um27 okX35_check g_13 (fun _ _ => by rw [e_17]; exact ⟨rfl, rfl⟩) rfl rfl) (w.2.2.2.2.2.2.2.2.2 e_17) (fun v_16 h_14 _ _ _ w => ?_)
      exact w_X40_column_15 w
def T_X40_column (D : JD) (d : Nat) (Q : JO → JH → Prop) (r0 : Nat) (r1 : Nat) (r2 : Nat) (h : JH) : Prop := W_X40_column_0 D d Q r0 r1 r2 h
theorem t_X40_column {D : JD} {d : Nat} {Q : JO → JH → Prop} {r0 : Nat} {r1 : Nat} {r2 : Nat} {h : JH} (w : T_X40_column D d Q r0 r1 r2 h) : cX40_column D (d + 1) r0 r1 r2 h Q := by
  unfold T_X40_column at w
  unfold cX40_column
  exact w_X40_column_0 w
def W_X40_add_0 (D : JD) (d : Nat) (Q : JO → JH → Prop) (r0 : Nat) (r1 : Nat) (r2 : Nat) (h : JH) : Prop :=
  r0 ≠ 0 ∧ ((¬ (jfi h 159 r0) = (16 : Int32) → (jfr h 156 r0) ≠ 0 ∧ jin (jfi h 159 r0) (jln h (jfr h 156 r0)) ∧ ∀ h_5 : JH, h_5 = war h (jfr h 156 r0) (ixn (jfi h 159 r0)) r1 → ((jfr h_5 158 r0) ≠ 0 ∧ jin (jfi h_5 159 r0) (jln h_5 (jfr h_5 158 r0)) ∧ ∀ h_9 : JH, h_9 = war h_5 (jfr h_5 158 r0) (ixn (jfi h_5 159 r0)) r2 → (∀ h_11 : JH, h_11 = wfi h_9 159 r0 ((jfi h_9 159 r0) + (1 : Int32)) → (Q (.inl none) h_11)))) ∧ ((jfi h 159 r0) = (16 : Int32) → cX1_fault D d (jcs D 179) h (pR D h 9 (fun v_15 h_13 => v_15 ≠ 0 ∧ (Q (.inr v_15) h_13)) (jth Q))))
theorem w_X40_add_0 {D : JD} {d : Nat} {Q : JO → JH → Prop} {r0 : Nat} {r1 : Nat} {r2 : Nat} {h : JH} (w : W_X40_add_0 D d Q r0 r1 r2 h) : JW D (d + 1) mX40_add 0 [some (vR 33 r0), some (vR 55 r1), some (vR 64 r2)] [] h Q := by
  unfold W_X40_add_0 at w
  refine jw_aload_n (pc' := 1) rfl rfl ?_
  obtain ⟨g_1, w⟩ := w
  refine jw_getI (pc' := 4) (F := 159) rfl rfl rfl rfl g_1 ?_
  refine jw_bipush (pc' := 6) (x := (16 : Int32)) rfl rfl ?_
  refine jw_icmp_ne (tgt := 15) (pc' := 9) rfl rfl (fun c_2 => ?_) (fun c_2 => ?_)
  · replace w := w.1 c_2
    refine jw_aload_n (pc' := 16) rfl rfl ?_
    refine jw_getR (pc' := 19) (F := 156) (t' := 158) rfl rfl rfl rfl rfl g_1 ?_
    refine jw_aload_n (pc' := 20) rfl rfl ?_
    refine jw_getI (pc' := 23) (F := 159) rfl rfl rfl rfl g_1 ?_
    refine jw_aload_n (pc' := 24) rfl rfl ?_
    obtain ⟨g_3, w⟩ := w
    obtain ⟨g_4, w⟩ := w
    refine jw_aast' (pc' := 25) rfl rfl rfl rfl rfl rfl g_3 g_4 (fun h_5 e_6 => ?_)
    replace w := w h_5 e_6
    refine jw_aload_n (pc' := 26) rfl rfl ?_
    refine jw_getR (pc' := 29) (F := 158) (t' := 160) rfl rfl rfl rfl rfl g_1 ?_
    refine jw_aload_n (pc' := 30) rfl rfl ?_
    refine jw_getI (pc' := 33) (F := 159) rfl rfl rfl rfl g_1 ?_
    refine jw_aload_n (pc' := 34) rfl rfl ?_
    obtain ⟨g_7, w⟩ := w
    obtain ⟨g_8, w⟩ := w
    refine jw_aast' (pc' := 35) rfl rfl rfl rfl rfl rfl g_7 g_8 (fun h_9 e_10 => ?_)
    replace w := w h_9 e_10
    refine jw_aload_n (pc' := 36) rfl rfl ?_
    refine jw_dup (pc' := 37) rfl rfl ?_
    refine jw_getI (pc' := 40) (F := 159) rfl rfl rfl rfl g_1 ?_
    refine jw_iconst (pc' := 41) (x := (1 : Int32)) rfl rfl ?_
    refine jw_iadd (pc' := 42) rfl ?_
    refine jw_putI' (pc' := 45) (F := 159) rfl rfl rfl (Or.inr rfl) (Or.inl rfl) rfl (rfl) (rfl) rfl g_1 (fun h_11 e_12 => ?_)
    replace w := w h_11 e_12
    exact jw_return rfl rfl w
  · replace w := w.2 c_2
    refine jw_ldcS (pc' := 11) rfl rfl rfl rfl ?_
    refine jw_cR (st := []) (sa := [vR 51 (jcs D 179)]) okX1_fault rfl rfl rfl rfl rfl rfl (jstp_static (sa := [vR 51 (jcs D 179)]) (st := []) rfl rfl sX1_fault okX1_fault rfl rfl) w (fun v_15 h_13 _ _ _ w => ?_)
    obtain ⟨g_16, w⟩ := w
    exact jw_athrow rfl rfl g_16 w
def T_X40_add (D : JD) (d : Nat) (Q : JO → JH → Prop) (r0 : Nat) (r1 : Nat) (r2 : Nat) (h : JH) : Prop := W_X40_add_0 D d Q r0 r1 r2 h
theorem t_X40_add {D : JD} {d : Nat} {Q : JO → JH → Prop} {r0 : Nat} {r1 : Nat} {r2 : Nat} {h : JH} (w : T_X40_add D d Q r0 r1 r2 h) : cX40_add D (d + 1) r0 r1 r2 h Q := by
  unfold T_X40_add at w
  unfold cX40_add
  exact w_X40_add_0 w
def W_X40_star_49 (D : JD) (d : Nat) (Q : JO → JH → Prop) (r0 : Nat) (r1 : Nat) (r2 : Nat) (h : JH) : Prop :=
  r0 ≠ 0 ∧ ((jfr h 157 r0) ≠ 0 ∧ jin (jfi h 159 r0) (jln h (jfr h 157 r0)) ∧ ((jar h (jfr h 157 r0) (ixn (jfi h 159 r0))) ≠ 0 ∧ (cX30_again D d (jar h (jfr h 157 r0) (ixn (jfi h 159 r0))) r1 r2 h (pR D h 24 (fun v_7 h_5 => Q (.inl (some (vR 24 v_7))) h_5) (jth Q)))))
theorem w_X40_star_49 {D : JD} {d : Nat} {Q : JO → JH → Prop} {r0 : Nat} {r1 : Nat} {r2 : Nat} {h : JH} (w : W_X40_star_49 D d Q r0 r1 r2 h) : JW D (d + 1) mX40_star 49 [some (vR 33 r0), some (vR 64 r1), some (vR 64 r2)] [] h Q := by
  unfold W_X40_star_49 at w
  refine jw_aload_n (pc' := 50) rfl rfl ?_
  obtain ⟨g_1, w⟩ := w
  refine jw_getR (pc' := 53) (F := 157) (t' := 159) rfl rfl rfl rfl rfl g_1 ?_
  refine jw_aload_n (pc' := 54) rfl rfl ?_
  refine jw_getI (pc' := 57) (F := 159) rfl rfl rfl rfl g_1 ?_
  obtain ⟨g_2, w⟩ := w
  obtain ⟨g_3, w⟩ := w
  refine jw_aald (pc' := 58) (t' := 24) rfl rfl rfl rfl g_2 g_3.ix g_3.2 ?_
  refine jw_aload_n (pc' := 59) rfl rfl ?_
  refine jw_aload_n (pc' := 60) rfl rfl ?_
  obtain ⟨g_4, w⟩ := w
  refine jw_cR (st := []) (sa := [vR 24 (jar h (jfr h 157 r0) (ixn (jfi h 159 r0))), vR 64 r1, vR 64 r2]) okX30_again rfl rfl rfl rfl rfl rfl (jstp_virtual (sa := [vR 64 r1, vR 64 r2]) (st := []) (k := 0) rfl rfl sX30_again okX30_again g_4 (one24.k g_4) rfl rfl) w (fun v_7 h_5 _ _ _ w => ?_)
  exact jw_areturn rfl rfl rfl rfl rfl w
def W_X40_star_0 (D : JD) (d : Nat) (Q : JO → JH → Prop) (r0 : Nat) (r1 : Nat) (r2 : Nat) (h : JH) : Prop :=
  r0 ≠ 0 ∧ ((¬ (jfi h 159 r0) = (16 : Int32) → (jfr h 157 r0) ≠ 0 ∧ jin (jfi h 159 r0) (jln h (jfr h 157 r0)) ∧ (((jar h (jfr h 157 r0) (ixn (jfi h 159 r0))) ≠ 0 → W_X40_star_49 D d Q r0 r1 r2 h) ∧ ((jar h (jfr h 157 r0) (ixn (jfi h 159 r0))) = 0 → ∀ (r_6 : Nat) (h_7 : JH), r_6 = jsz h + 1 → h_7 = nwo h 24 6 → (cX30_init D d r_6 r1 r2 h_7 (pV D h_7 (fun h_10 => jin (jfi h 159 r0) (jln h_10 (jfr h 157 r0)) ∧ ∀ h_14 : JH, h_14 = war h_10 (jfr h 157 r0) (ixn (jfi h 159 r0)) r_6 → (W_X40_star_49 D d Q r0 r1 r2 h_14)) (jth Q)))))) ∧ ((jfi h 159 r0) = (16 : Int32) → ∀ (r_16 : Nat) (h_17 : JH), r_16 = jsz h + 1 → h_17 = nwo h 24 6 → (cX30_init D d r_16 r1 r2 h_17 (pV D h_17 (fun h_20 => Q (.inl (some (vR 24 r_16))) h_20) (jth Q)))))
theorem w_X40_star_0 {D : JD} {d : Nat} {Q : JO → JH → Prop} {r0 : Nat} {r1 : Nat} {r2 : Nat} {h : JH} (w : W_X40_star_0 D d Q r0 r1 r2 h) : JW D (d + 1) mX40_star 0 [some (vR 33 r0), some (vR 64 r1), some (vR 64 r2)] [] h Q := by
  unfold W_X40_star_0 at w
  refine jw_aload_n (pc' := 1) rfl rfl ?_
  obtain ⟨g_1, w⟩ := w
  refine jw_getI (pc' := 4) (F := 159) rfl rfl rfl rfl g_1 ?_
  refine jw_bipush (pc' := 6) (x := (16 : Int32)) rfl rfl ?_
  refine jw_icmp_ne (tgt := 19) (pc' := 9) rfl rfl (fun c_2 => ?_) (fun c_2 => ?_)
  · replace w := w.1 c_2
    refine jw_aload_n (pc' := 20) rfl rfl ?_
    refine jw_getR (pc' := 23) (F := 157) (t' := 159) rfl rfl rfl rfl rfl g_1 ?_
    refine jw_aload_n (pc' := 24) rfl rfl ?_
    refine jw_getI (pc' := 27) (F := 159) rfl rfl rfl rfl g_1 ?_
    obtain ⟨g_3, w⟩ := w
    obtain ⟨g_4, w⟩ := w
    refine jw_aald (pc' := 28) (t' := 24) rfl rfl rfl rfl g_3 g_4.ix g_4.2 ?_
    refine jw_ifnonnull (tgt := 49) (pc' := 31) rfl rfl (fun c_5 => ?_) (fun c_5 => ?_)
    · replace w := w.1 c_5
      exact w_X40_star_49 w
    · replace w := w.2 c_5
      refine jw_aload_n (pc' := 32) rfl rfl ?_
      refine jw_getR (pc' := 35) (F := 157) (t' := 159) rfl rfl rfl rfl rfl g_1 ?_
      refine jw_aload_n (pc' := 36) rfl rfl ?_
      refine jw_getI (pc' := 39) (F := 159) rfl rfl rfl rfl g_1 ?_
      refine jw_new' (pc' := 42) (k := 24) (n := 6) rfl rfl rfl rfl rfl rfl rfl (fun r_6 h_7 e_8 e_9 => ?_)
      replace w := w r_6 h_7 e_8 e_9
      refine jw_dup (pc' := 43) rfl rfl ?_
      refine jw_aload_n (pc' := 44) rfl rfl ?_
      refine jw_aload_n (pc' := 45) rfl rfl ?_
      refine jw_cV (st := [vR 24 r_6, vI (jfi h 159 r0), vR 159 (jfr h 157 r0)]) (sa := [vR 24 r_6, vR 64 r1, vR 64 r2]) okX30_init rfl rfl rfl rfl rfl rfl (jstp_init (sa := [vR 64 r1, vR 64 r2]) (st := [vR 24 r_6, vI (jfi h 159 r0), vR 159 (jfr h 157 r0)]) rfl rfl sX30_init okX30_init (lw_g (jtb_mem (c := 8) (i := 25) rfl) rfl) (jnz e_8) rfl rfl) w (fun h_10 _ _ w => ?_)
      obtain ⟨g_13, w⟩ := w
      refine jw_aast' (pc' := 49) rfl rfl rfl rfl rfl rfl g_3 g_13 (fun h_14 e_15 => ?_)
      replace w := w h_14 e_15
      exact w_X40_star_49 w
  · replace w := w.2 c_2
    refine jw_new' (pc' := 12) (k := 24) (n := 6) rfl rfl rfl rfl rfl rfl rfl (fun r_16 h_17 e_18 e_19 => ?_)
    replace w := w r_16 h_17 e_18 e_19
    refine jw_dup (pc' := 13) rfl rfl ?_
    refine jw_aload_n (pc' := 14) rfl rfl ?_
    refine jw_aload_n (pc' := 15) rfl rfl ?_
    refine jw_cV (st := [vR 24 r_16]) (sa := [vR 24 r_16, vR 64 r1, vR 64 r2]) okX30_init rfl rfl rfl rfl rfl rfl (jstp_init (sa := [vR 64 r1, vR 64 r2]) (st := [vR 24 r_16]) rfl rfl sX30_init okX30_init (lw_g (jtb_mem (c := 8) (i := 25) rfl) rfl) (jnz e_18) rfl rfl) w (fun h_20 _ _ w => ?_)
    exact jw_areturn rfl rfl rfl rfl rfl w
def T_X40_star (D : JD) (d : Nat) (Q : JO → JH → Prop) (r0 : Nat) (r1 : Nat) (r2 : Nat) (h : JH) : Prop := W_X40_star_0 D d Q r0 r1 r2 h
theorem t_X40_star {D : JD} {d : Nat} {Q : JO → JH → Prop} {r0 : Nat} {r1 : Nat} {r2 : Nat} {h : JH} (w : T_X40_star D d Q r0 r1 r2 h) : cX40_star D (d + 1) r0 r1 r2 h Q := by
  unfold T_X40_star at w
  unfold cX40_star
  exact w_X40_star_0 w
def W_X40_order_112 (D : JD) (d : Nat) (Q : JO → JH → Prop) (r0 : Nat) (x1 : Int32) (h : JH) : Prop :=
  r0 ≠ 0 ∧ ((jfr h 152 r0) ≠ 0 ∧ jin x1 (jln h (jfr h 152 r0)) ∧ ((0 ≤ (jai h (jfr h 152 r0) (ixn x1)) → Q (.inl none) h) ∧ (¬ 0 ≤ (jai h (jfr h 152 r0) (ixn x1)) → cX1_fault D d (jcs D 182) h (pR D h 9 (fun v_7 h_5 => v_7 ≠ 0 ∧ (Q (.inr v_7) h_5)) (jth Q)))))
theorem w_X40_order_112 {D : JD} {d : Nat} {Q : JO → JH → Prop} {r0 : Nat} {x1 : Int32} {h : JH} (w : W_X40_order_112 D d Q r0 x1 h) : JW D (d + 1) mX40_order 112 [some (vR 33 r0), some (vI x1), none, none] [] h Q := by
  unfold W_X40_order_112 at w
  refine jw_aload_n (pc' := 113) rfl rfl ?_
  obtain ⟨g_1, w⟩ := w
  refine jw_getR (pc' := 116) (F := 152) (t' := 157) rfl rfl rfl rfl rfl g_1 ?_
  refine jw_iload_n (pc' := 117) rfl rfl ?_
  obtain ⟨g_2, w⟩ := w
  obtain ⟨g_3, w⟩ := w
  refine jw_iald (pc' := 118) rfl rfl rfl rfl g_2 g_3.ix g_3.2 ?_
  refine jw_if_ge (tgt := 127) (pc' := 121) rfl rfl (fun c_4 => ?_) (fun c_4 => ?_)
  · replace w := w.1 c_4
    exact jw_return rfl rfl w
  · replace w := w.2 c_4
    refine jw_ldcS (pc' := 123) rfl rfl rfl rfl ?_
    refine jw_cR (st := []) (sa := [vR 51 (jcs D 182)]) okX1_fault rfl rfl rfl rfl rfl rfl (jstp_static (sa := [vR 51 (jcs D 182)]) (st := []) rfl rfl sX1_fault okX1_fault rfl rfl) w (fun v_7 h_5 _ _ _ w => ?_)
    obtain ⟨g_8, w⟩ := w
    exact jw_athrow rfl rfl g_8 w
def W_X40_order_106 (D : JD) (d : Nat) (Q : JO → JH → Prop) (K64 : Nat → Int32 → Int32 → JH → Prop) (r0 : Nat) (x1 : Int32) (x3 : Int32) (h : JH) : Prop :=
  K64 r0 x1 (x3 + (1 : Int32)) h
theorem w_X40_order_106 {D : JD} {d : Nat} {Q : JO → JH → Prop} {K64 : Nat → Int32 → Int32 → JH → Prop} {r0 : Nat} {x1 : Int32} {x3 : Int32} {h : JH} (hK64 : ∀ (r0 : Nat) (x1 : Int32) (x3 : Int32) (h : JH), K64 r0 x1 x3 h → JW D (d + 1) mX40_order 64 [some (vR 33 r0), some (vI x1), none, some (vI x3)] [] h Q) (w : W_X40_order_106 D d Q K64 r0 x1 x3 h) : JW D (d + 1) mX40_order 106 [some (vR 33 r0), some (vI x1), none, some (vI x3)] [] h Q := by
  unfold W_X40_order_106 at w
  refine jw_iinc (pc' := 109) (y := x3 + (1 : Int32)) (ls' := [some (vR 33 r0), some (vI x1), none, some (vI (x3 + (1 : Int32)))]) rfl (by decide) rfl rfl rfl ?_
  refine jw_goto (pc' := 64) rfl rfl ?_
  exact hK64 _ _ _ _ w
def W_X40_order_96 (D : JD) (d : Nat) (Q : JO → JH → Prop) (K64 : Nat → Int32 → Int32 → JH → Prop) (r0 : Nat) (x1 : Int32) (x3 : Int32) (s0 : Int32) (h : JH) : Prop :=
  (s0 = 0 → W_X40_order_106 D d Q K64 r0 x1 x3 h) ∧ (¬ s0 = 0 → r0 ≠ 0 ∧ ((jfr h 152 r0) ≠ 0 ∧ jin x1 (jln h (jfr h 152 r0)) ∧ ∀ h_5 : JH, h_5 = wai h (jfr h 152 r0) (ixn x1) x3 → (W_X40_order_106 D d Q K64 r0 x1 x3 h_5)))
theorem w_X40_order_96 {D : JD} {d : Nat} {Q : JO → JH → Prop} {K64 : Nat → Int32 → Int32 → JH → Prop} {r0 : Nat} {x1 : Int32} {x3 : Int32} {s0 : Int32} {h : JH} (hK64 : ∀ (r0 : Nat) (x1 : Int32) (x3 : Int32) (h : JH), K64 r0 x1 x3 h → JW D (d + 1) mX40_order 64 [some (vR 33 r0), some (vI x1), none, some (vI x3)] [] h Q) (w : W_X40_order_96 D d Q K64 r0 x1 x3 s0 h) : JW D (d + 1) mX40_order 96 [some (vR 33 r0), some (vI x1), none, some (vI x3)] [vI s0] h Q := by
  unfold W_X40_order_96 at w
  refine jw_if_eq (tgt := 106) (pc' := 99) rfl rfl (fun c_1 => ?_) (fun c_1 => ?_)
  · replace w := w.1 c_1
    exact w_X40_order_106 hK64 w
  · replace w := w.2 c_1
    refine jw_aload_n (pc' := 100) rfl rfl ?_
    obtain ⟨g_2, w⟩ := w
    refine jw_getR (pc' := 103) (F := 152) (t' := 157) rfl rfl rfl rfl rfl g_2 ?_
    refine jw_iload_n (pc' := 104) rfl rfl ?_
    refine jw_iload_n (pc' := 105) rfl rfl ?_
    obtain ⟨g_3, w⟩ := w
    obtain ⟨g_4, w⟩ := w
    refine jw_iast' (pc' := 106) rfl rfl rfl rfl rfl g_3 g_4 (fun h_5 e_6 => ?_)
    replace w := w h_5 e_6
    exact w_X40_order_106 hK64 w
def W_X40_order_64 (D : JD) (d : Nat) (Q : JO → JH → Prop) (K64 : Nat → Int32 → Int32 → JH → Prop) (r0 : Nat) (x1 : Int32) (x3 : Int32) (h : JH) : Prop :=
  r0 ≠ 0 ∧ (((jfi h 159 r0) ≤ x3 → W_X40_order_112 D d Q r0 x1 h) ∧ (¬ (jfi h 159 r0) ≤ x3 → (jfr h 152 r0) ≠ 0 ∧ jin x1 (jln h (jfr h 152 r0)) ∧ ((0 ≤ (jai h (jfr h 152 r0) (ixn x1)) → W_X40_order_112 D d Q r0 x1 h) ∧ (¬ 0 ≤ (jai h (jfr h 152 r0) (ixn x1)) → (jfr h 156 r0) ≠ 0 ∧ jin x3 (jln h (jfr h 156 r0)) ∧ ((jfr h 150 r0) ≠ 0 ∧ jin x1 (jln h (jfr h 150 r0)) ∧ ((jar h (jfr h 156 r0) (ixn x3)) ≠ 0 ∧ (v55_like D d (jar h (jfr h 156 r0) (ixn x3)) (jar h (jfr h 150 r0) (ixn x1)) h (pI D h (fun v_13 h_11 => W_X40_order_96 D d Q K64 r0 x1 x3 v_13 h_11) (jth Q)))))))))
theorem w_X40_order_64 {D : JD} {d : Nat} {Q : JO → JH → Prop} {K64 : Nat → Int32 → Int32 → JH → Prop} {r0 : Nat} {x1 : Int32} {x3 : Int32} {h : JH} (hK64 : ∀ (r0 : Nat) (x1 : Int32) (x3 : Int32) (h : JH), K64 r0 x1 x3 h → JW D (d + 1) mX40_order 64 [some (vR 33 r0), some (vI x1), none, some (vI x3)] [] h Q) (w : W_X40_order_64 D d Q K64 r0 x1 x3 h) : JW D (d + 1) mX40_order 64 [some (vR 33 r0), some (vI x1), none, some (vI x3)] [] h Q := by
  unfold W_X40_order_64 at w
  refine jw_iload_n (pc' := 65) rfl rfl ?_
  refine jw_aload_n (pc' := 66) rfl rfl ?_
  obtain ⟨g_1, w⟩ := w
  refine jw_getI (pc' := 69) (F := 159) rfl rfl rfl rfl g_1 ?_
  refine jw_icmp_ge (tgt := 112) (pc' := 72) rfl rfl (fun c_2 => ?_) (fun c_2 => ?_)
  · replace w := w.1 c_2
    refine jw_gen (ls' := [some (vR 33 r0), some (vI x1), none, none]) (st' := []) (And.intro (Or.inl rfl) (And.intro (Or.inl rfl) (trivial))) (trivial) ?_
    exact w_X40_order_112 w
  · replace w := w.2 c_2
    refine jw_aload_n (pc' := 73) rfl rfl ?_
    refine jw_getR (pc' := 76) (F := 152) (t' := 157) rfl rfl rfl rfl rfl g_1 ?_
    refine jw_iload_n (pc' := 77) rfl rfl ?_
    obtain ⟨g_3, w⟩ := w
    obtain ⟨g_4, w⟩ := w
    refine jw_iald (pc' := 78) rfl rfl rfl rfl g_3 g_4.ix g_4.2 ?_
    refine jw_if_ge (tgt := 112) (pc' := 81) rfl rfl (fun c_5 => ?_) (fun c_5 => ?_)
    · replace w := w.1 c_5
      refine jw_gen (ls' := [some (vR 33 r0), some (vI x1), none, none]) (st' := []) (And.intro (Or.inl rfl) (And.intro (Or.inl rfl) (trivial))) (trivial) ?_
      exact w_X40_order_112 w
    · replace w := w.2 c_5
      refine jw_aload_n (pc' := 82) rfl rfl ?_
      refine jw_getR (pc' := 85) (F := 156) (t' := 158) rfl rfl rfl rfl rfl g_1 ?_
      refine jw_iload_n (pc' := 86) rfl rfl ?_
      obtain ⟨g_6, w⟩ := w
      obtain ⟨g_7, w⟩ := w
      refine jw_aald (pc' := 87) (t' := 55) rfl rfl rfl rfl g_6 g_7.ix g_7.2 ?_
      refine jw_aload_n (pc' := 88) rfl rfl ?_
      refine jw_getR (pc' := 91) (F := 150) (t' := 155) rfl rfl rfl rfl rfl g_1 ?_
      refine jw_iload_n (pc' := 92) rfl rfl ?_
      obtain ⟨g_8, w⟩ := w
      obtain ⟨g_9, w⟩ := w
      refine jw_aald (pc' := 93) (t' := 55) rfl rfl rfl rfl g_8 g_9.ix g_9.2 ?_
      obtain ⟨g_10, w⟩ := w
      refine JW.inv (fun hI => JW.oks (fun ho => ?_))
      have hkd := und55.k hI (ho (vR 55 (jar h (jfr h 156 r0) (ixn x3))) (by simp)) g_10
      simp only [List.mem_cons, List.not_mem_nil, or_false] at hkd
      clear ho hI
      rcases hkd with e_14 | e_14 | e_14 | e_14 | e_14 | e_14 | e_14 | e_14 | e_14 | e_14
      · refine jw_gen (ls' := _) (st' := [vR 55 (jar h (jfr h 150 r0) (ixn x1)), vR 20 (jar h (jfr h 156 r0) (ixn x3))]) (jgl_rf _ _) (And.intro (Or.inl rfl) (And.intro (Or.inr ⟨_, _, _, rfl, rfl, Or.inr (Or.inr (by rw [e_14]; rfl))⟩) (jgs_rf _ _))) ?_
        refine jw_cI (st := []) (sa := [vR 20 (jar h (jfr h 156 r0) (ixn x3)), vR 55 (jar h (jfr h 150 r0) (ixn x1))]) okX25_like rfl rfl rfl rfl rfl rfl (jstp_up (sa := [vR 55 (jar h (jfr h 150 r0) (ixn x1))]) (st := []) rfl (lw_g (jtb_mem (c := 11) (i := 193) rfl) rfl) um78 okX25_like g_10 (fun _ _ => by rw [e_14]; exact ⟨rfl, rfl⟩) rfl rfl) (w.1 e_14) (fun v_13 h_11 _ _ w => ?_)
        exact w_X40_order_96 hK64 w
      · refine jw_gen (ls' := _) (st' := [vR 55 (jar h (jfr h 150 r0) (ixn x1)), vR 21 (jar h (jfr h 156 r0) (ixn x3))]) (jgl_rf _ _) (And.intro (Or.inl rfl) (And.intro (Or.inr ⟨_, _, _, rfl, rfl, Or.inr (Or.inr (by rw [e_14]; rfl))⟩) (jgs_rf _ _))) ?_
        refine jw_cI (st := []) (sa := [vR 21 (jar h (jfr h 156 r0) (ixn x3)), vR 55 (jar h (jfr h 150 r0) (ixn x1))]) okX27_like rfl rfl rfl rfl rfl rfl (jstp_up (sa := [vR 55 (jar h (jfr h 150 r0) (ixn x1))]) (st := []) rfl (lw_g (jtb_mem (c := 11) (i := 193) rfl) rfl) um79 okX27_like g_10 (fun _ _ => by rw [e_14]; exact ⟨rfl, rfl⟩) rfl rfl) (w.2.1 e_14) (fun v_13 h_11 _ _ w => ?_)
        exact w_X40_order_96 hK64 w
      · refine jw_gen (ls' := _) (st' := [vR 55 (jar h (jfr h 150 r0) (ixn x1)), vR 22 (jar h (jfr h 156 r0) (ixn x3))]) (jgl_rf _ _) (And.intro (Or.inl rfl) (And.intro (Or.inr ⟨_, _, _, rfl, rfl, Or.inr (Or.inr (by rw [e_14]; rfl))⟩) (jgs_rf _ _))) ?_
        refine jw_cI (st := []) (sa := [vR 22 (jar h (jfr h 156 r0) (ixn x3)), vR 55 (jar h (jfr h 150 r0) (ixn x1))]) okX28_like rfl rfl rfl rfl rfl rfl (jstp_up (sa := [vR 55 (jar h (jfr h 150 r0) (ixn x1))]) (st := []) rfl (lw_g (jtb_mem (c := 11) (i := 193) rfl) rfl) um80 okX28_like g_10 (fun _ _ => by rw [e_14]; exact ⟨rfl, rfl⟩) rfl rfl) (w.2.2.1 e_14) (fun v_13 h_11 _ _ w => ?_)
        exact w_X40_order_96 hK64 w
      · refine jw_gen (ls' := _) (st' := [vR 55 (jar h (jfr h 150 r0) (ixn x1)), vR 23 (jar h (jfr h 156 r0) (ixn x3))]) (jgl_rf _ _) (And.intro (Or.inl rfl) (And.intro (Or.inr ⟨_, _, _, rfl, rfl, Or.inr (Or.inr (by rw [e_14]; rfl))⟩) (jgs_rf _ _))) ?_
        refine jw_cI (st := []) (sa := [vR 23 (jar h (jfr h 156 r0) (ixn x3)), vR 55 (jar h (jfr h 150 r0) (ixn x1))]) okX29_like rfl rfl rfl rfl rfl rfl (jstp_up (sa := [vR 55 (jar h (jfr h 150 r0) (ixn x1))]) (st := []) rfl (lw_g (jtb_mem (c := 11) (i := 193) rfl) rfl) um81 okX29_like g_10 (fun _ _ => by rw [e_14]; exact ⟨rfl, rfl⟩) rfl rfl) (w.2.2.2.1 e_14) (fun v_13 h_11 _ _ w => ?_)
        exact w_X40_order_96 hK64 w
      · refine jw_gen (ls' := _) (st' := [vR 55 (jar h (jfr h 150 r0) (ixn x1)), vR 24 (jar h (jfr h 156 r0) (ixn x3))]) (jgl_rf _ _) (And.intro (Or.inl rfl) (And.intro (Or.inr ⟨_, _, _, rfl, rfl, Or.inr (Or.inr (by rw [e_14]; rfl))⟩) (jgs_rf _ _))) ?_
        refine jw_cI (st := []) (sa := [vR 24 (jar h (jfr h 156 r0) (ixn x3)), vR 55 (jar h (jfr h 150 r0) (ixn x1))]) okX30_like rfl rfl rfl rfl rfl rfl (jstp_up (sa := [vR 55 (jar h (jfr h 150 r0) (ixn x1))]) (st := []) rfl (lw_g (jtb_mem (c := 11) (i := 193) rfl) rfl) um82 okX30_like g_10 (fun _ _ => by rw [e_14]; exact ⟨rfl, rfl⟩) rfl rfl) (w.2.2.2.2.1 e_14) (fun v_13 h_11 _ _ w => ?_)
        exact w_X40_order_96 hK64 w
      · refine jw_gen (ls' := _) (st' := [vR 55 (jar h (jfr h 150 r0) (ixn x1)), vR 25 (jar h (jfr h 156 r0) (ixn x3))]) (jgl_rf _ _) (And.intro (Or.inl rfl) (And.intro (Or.inr ⟨_, _, _, rfl, rfl, Or.inr (Or.inr (by rw [e_14]; rfl))⟩) (jgs_rf _ _))) ?_
        refine jw_cI (st := []) (sa := [vR 25 (jar h (jfr h 156 r0) (ixn x3)), vR 55 (jar h (jfr h 150 r0) (ixn x1))]) okX31_like rfl rfl rfl rfl rfl rfl (jstp_up (sa := [vR 55 (jar h (jfr h 150 r0) (ixn x1))]) (st := []) rfl (lw_g (jtb_mem (c := 11) (i := 193) rfl) rfl) um83 okX31_like g_10 (fun _ _ => by rw [e_14]; exact ⟨rfl, rfl⟩) rfl rfl) (w.2.2.2.2.2.1 e_14) (fun v_13 h_11 _ _ w => ?_)
        exact w_X40_order_96 hK64 w
      · refine jw_gen (ls' := _) (st' := [vR 55 (jar h (jfr h 150 r0) (ixn x1)), vR 26 (jar h (jfr h 156 r0) (ixn x3))]) (jgl_rf _ _) (And.intro (Or.inl rfl) (And.intro (Or.inr ⟨_, _, _, rfl, rfl, Or.inr (Or.inr (by rw [e_14]; rfl))⟩) (jgs_rf _ _))) ?_
        refine jw_cI (st := []) (sa := [vR 26 (jar h (jfr h 156 r0) (ixn x3)), vR 55 (jar h (jfr h 150 r0) (ixn x1))]) okX32_like rfl rfl rfl rfl rfl rfl (jstp_up (sa := [vR 55 (jar h (jfr h 150 r0) (ixn x1))]) (st := []) rfl (lw_g (jtb_mem (c := 11) (i := 193) rfl) rfl) um84 okX32_like g_10 (fun _ _ => by rw [e_14]; exact ⟨rfl, rfl⟩) rfl rfl) (w.2.2.2.2.2.2.1 e_14) (fun v_13 h_11 _ _ w => ?_)
        exact w_X40_order_96 hK64 w
      · refine jw_gen (ls' := _) (st' := [vR 55 (jar h (jfr h 150 r0) (ixn x1)), vR 27 (jar h (jfr h 156 r0) (ixn x3))]) (jgl_rf _ _) (And.intro (Or.inl rfl) (And.intro (Or.inr ⟨_, _, _, rfl, rfl, Or.inr (Or.inr (by rw [e_14]; rfl))⟩) (jgs_rf _ _))) ?_
        refine jw_cI (st := []) (sa := [vR 27 (jar h (jfr h 156 r0) (ixn x3)), vR 55 (jar h (jfr h 150 r0) (ixn x1))]) okX33_like rfl rfl rfl rfl rfl rfl (jstp_up (sa := [vR 55 (jar h (jfr h 150 r0) (ixn x1))]) (st := []) rfl (lw_g (jtb_mem (c := 11) (i := 193) rfl) rfl) um85 okX33_like g_10 (fun _ _ => by rw [e_14]; exact ⟨rfl, rfl⟩) rfl rfl) (w.2.2.2.2.2.2.2.1 e_14) (fun v_13 h_11 _ _ w => ?_)
        exact w_X40_order_96 hK64 w
      · refine jw_gen (ls' := _) (st' := [vR 55 (jar h (jfr h 150 r0) (ixn x1)), vR 28 (jar h (jfr h 156 r0) (ixn x3))]) (jgl_rf _ _) (And.intro (Or.inl rfl) (And.intro (Or.inr ⟨_, _, _, rfl, rfl, Or.inr (Or.inr (by rw [e_14]; rfl))⟩) (jgs_rf _ _))) ?_
        refine jw_cI (st := []) (sa := [vR 28 (jar h (jfr h 156 r0) (ixn x3)), vR 55 (jar h (jfr h 150 r0) (ixn x1))]) okX34_like rfl rfl rfl rfl rfl rfl (jstp_up (sa := [vR 55 (jar h (jfr h 150 r0) (ixn x1))]) (st := []) rfl (lw_g (jtb_mem (c := 11) (i := 193) rfl) rfl) um86 okX34_like g_10 (fun _ _ => by rw [e_14]; exact ⟨rfl, rfl⟩) rfl rfl) (w.2.2.2.2.2.2.2.2.1 e_14) (fun v_13 h_11 _ _ w => ?_)
        exact w_X40_order_96 hK64 w
      · refine jw_gen (ls' := _) (st' := [vR 55 (jar h (jfr h 150 r0) (ixn x1)), vR 29 (jar h (jfr h 156 r0) (ixn x3))]) (jgl_rf _ _) (And.intro (Or.inl rfl) (And.intro (Or.inr ⟨_, _, _, rfl, rfl, Or.inr (Or.inr (by rw [e_14]; rfl))⟩) (jgs_rf _ _))) ?_
        refine jw_cI (st := []) (sa := [vR 29 (jar h (jfr h 156 r0) (ixn x3)), vR 55 (jar h (jfr h 150 r0) (ixn x1))]) okX35_like rfl rfl rfl rfl rfl rfl (jstp_up (sa := [vR 55 (jar h (jfr h 150 r0) (ixn x1))]) (st := []) rfl (lw_g (jtb_mem (c := 11) (i := 193) rfl) rfl) um87 okX35_like g_10 (fun _ _ => by rw [e_14]; exact ⟨rfl, rfl⟩) rfl rfl) (w.2.2.2.2.2.2.2.2.2 e_14) (fun v_13 h_11 _ _ w => ?_)
        exact w_X40_order_96 hK64 w
def L_X40_order_64 (D : JD) (d : Nat) (Q : JO → JH → Prop) : Nat → Nat → Int32 → Int32 → JH → Prop
  | 0 => fun _ _ _ _ => False
  | n + 1 => fun r0 x1 x3 h => W_X40_order_64 D d Q (L_X40_order_64 D d Q n) r0 x1 x3 h
theorem l_X40_order_64 {D : JD} {d : Nat} {Q : JO → JH → Prop} : ∀ (n : Nat) (r0 : Nat) (x1 : Int32) (x3 : Int32) (h : JH), L_X40_order_64 D d Q n r0 x1 x3 h → JW D (d + 1) mX40_order 64 [some (vR 33 r0), some (vI x1), none, some (vI x3)] [] h Q := by
  intro n
  induction n with
  | zero => intro _ _ _ _ w; exact w.elim
  | succ n ih => intro _ _ _ h w; exact w_X40_order_64 ih w
def W_X40_order_54 (D : JD) (d : Nat) (Q : JO → JH → Prop) (r0 : Nat) (x1 : Int32) (h : JH) : Prop :=
  r0 ≠ 0 ∧ ((¬ (jfi h 141 r0) = 0 → ∃ n, L_X40_order_64 D d Q n r0 x1 (0 : Int32) h) ∧ ((jfi h 141 r0) = 0 → Q (.inl none) h))
theorem w_X40_order_54 {D : JD} {d : Nat} {Q : JO → JH → Prop} {r0 : Nat} {x1 : Int32} {h : JH} (w : W_X40_order_54 D d Q r0 x1 h) : JW D (d + 1) mX40_order 54 [some (vR 33 r0), some (vI x1), none, none] [] h Q := by
  unfold W_X40_order_54 at w
  refine jw_aload_n (pc' := 55) rfl rfl ?_
  obtain ⟨g_1, w⟩ := w
  refine jw_getI (pc' := 58) (F := 141) rfl rfl rfl rfl g_1 ?_
  refine jw_if_ne (tgt := 62) (pc' := 61) rfl rfl (fun c_2 => ?_) (fun c_2 => ?_)
  · replace w := w.1 c_2
    refine jw_iconst (pc' := 63) (x := (0 : Int32)) rfl rfl ?_
    refine jw_istore_n (pc' := 64) (ls' := [some (vR 33 r0), some (vI x1), none, some (vI (0 : Int32))]) rfl (by decide) rfl ?_
    obtain ⟨n, w⟩ := w
    exact l_X40_order_64 n _ _ _ _ w
  · replace w := w.2 c_2
    exact jw_return rfl rfl w
def W_X40_order_36 (D : JD) (d : Nat) (Q : JO → JH → Prop) (r0 : Nat) (x1 : Int32) (r2 : Nat) (q0 : Nat) (h : JH) : Prop :=
  r0 ≠ 0 ∧ (((jfi h 160 r0) = 0 → W_X40_order_54 D d Q r0 x1 h) ∧ (¬ (jfi h 160 r0) = 0 → (jfr h 150 r0) ≠ 0 ∧ jin x1 (jln h (jfr h 150 r0)) ∧ ((jar h (jfr h 150 r0) (ixn x1)) ≠ 0 ∧ (cX24_grouped D d (jar h (jfr h 150 r0) (ixn x1)) r2 h (pV D h (fun h_6 => W_X40_order_54 D d Q r0 x1 h_6) (jth Q))))))
theorem w_X40_order_36 {D : JD} {d : Nat} {Q : JO → JH → Prop} {r0 : Nat} {x1 : Int32} {r2 : Nat} {q0 : Nat} {h : JH} (w : W_X40_order_36 D d Q r0 x1 r2 q0 h) : JW D (d + 1) mX40_order 36 [some (vR 33 r0), some (vI x1), some (vR 6 r2), none] [vR 52 q0] h Q := by
  unfold W_X40_order_36 at w
  refine jw_pop (pc' := 37) rfl rfl ?_
  refine jw_aload_n (pc' := 38) rfl rfl ?_
  obtain ⟨g_1, w⟩ := w
  refine jw_getI (pc' := 41) (F := 160) rfl rfl rfl rfl g_1 ?_
  refine jw_if_eq (tgt := 54) (pc' := 44) rfl rfl (fun c_2 => ?_) (fun c_2 => ?_)
  · replace w := w.1 c_2
    refine jw_gen (ls' := [some (vR 33 r0), some (vI x1), none, none]) (st' := []) (And.intro (Or.inl rfl) (And.intro (Or.inl rfl) (trivial))) (trivial) ?_
    exact w_X40_order_54 w
  · replace w := w.2 c_2
    refine jw_aload_n (pc' := 45) rfl rfl ?_
    refine jw_getR (pc' := 48) (F := 150) (t' := 155) rfl rfl rfl rfl rfl g_1 ?_
    refine jw_iload_n (pc' := 49) rfl rfl ?_
    obtain ⟨g_3, w⟩ := w
    obtain ⟨g_4, w⟩ := w
    refine jw_aald (pc' := 50) (t' := 55) rfl rfl rfl rfl g_3 g_4.ix g_4.2 ?_
    refine jw_aload_n (pc' := 51) rfl rfl ?_
    obtain ⟨g_5, w⟩ := w
    refine JW.inv (fun hI => JW.oks (fun ho => ?_))
    have hkd := und55.k hI (ho (vR 55 (jar h (jfr h 150 r0) (ixn x1))) (by simp)) g_5
    simp only [List.mem_cons, List.not_mem_nil, or_false] at hkd
    clear ho hI
    rcases hkd with e_9 | e_9 | e_9 | e_9 | e_9 | e_9 | e_9 | e_9 | e_9 | e_9
    · refine jw_cV (st := []) (sa := [vR 55 (jar h (jfr h 150 r0) (ixn x1)), vR 6 r2]) okX24_grouped rfl rfl rfl rfl rfl rfl (jstp_up (sa := [vR 6 r2]) (st := []) rfl (lw_g (jtb_mem (c := 11) (i := 13) rfl) rfl) um88 okX24_grouped g_5 (fun _ _ => by rw [e_9]; exact ⟨rfl, rfl⟩) rfl rfl) w (fun h_6 _ _ w => ?_)
      refine jw_gen (ls' := [some (vR 33 r0), some (vI x1), none, none]) (st' := []) (And.intro (Or.inl rfl) (And.intro (Or.inl rfl) (trivial))) (trivial) ?_
      exact w_X40_order_54 w
    · refine jw_cV (st := []) (sa := [vR 55 (jar h (jfr h 150 r0) (ixn x1)), vR 6 r2]) okX24_grouped rfl rfl rfl rfl rfl rfl (jstp_up (sa := [vR 6 r2]) (st := []) rfl (lw_g (jtb_mem (c := 11) (i := 13) rfl) rfl) um89 okX24_grouped g_5 (fun _ _ => by rw [e_9]; exact ⟨rfl, rfl⟩) rfl rfl) w (fun h_6 _ _ w => ?_)
      refine jw_gen (ls' := [some (vR 33 r0), some (vI x1), none, none]) (st' := []) (And.intro (Or.inl rfl) (And.intro (Or.inl rfl) (trivial))) (trivial) ?_
      exact w_X40_order_54 w
    · refine jw_cV (st := []) (sa := [vR 55 (jar h (jfr h 150 r0) (ixn x1)), vR 6 r2]) okX24_grouped rfl rfl rfl rfl rfl rfl (jstp_up (sa := [vR 6 r2]) (st := []) rfl (lw_g (jtb_mem (c := 11) (i := 13) rfl) rfl) um90 okX24_grouped g_5 (fun _ _ => by rw [e_9]; exact ⟨rfl, rfl⟩) rfl rfl) w (fun h_6 _ _ w => ?_)
      refine jw_gen (ls' := [some (vR 33 r0), some (vI x1), none, none]) (st' := []) (And.intro (Or.inl rfl) (And.intro (Or.inl rfl) (trivial))) (trivial) ?_
      exact w_X40_order_54 w
    · refine jw_cV (st := []) (sa := [vR 55 (jar h (jfr h 150 r0) (ixn x1)), vR 6 r2]) okX24_grouped rfl rfl rfl rfl rfl rfl (jstp_up (sa := [vR 6 r2]) (st := []) rfl (lw_g (jtb_mem (c := 11) (i := 13) rfl) rfl) um91 okX24_grouped g_5 (fun _ _ => by rw [e_9]; exact ⟨rfl, rfl⟩) rfl rfl) w (fun h_6 _ _ w => ?_)
      refine jw_gen (ls' := [some (vR 33 r0), some (vI x1), none, none]) (st' := []) (And.intro (Or.inl rfl) (And.intro (Or.inl rfl) (trivial))) (trivial) ?_
      exact w_X40_order_54 w
    · refine jw_cV (st := []) (sa := [vR 55 (jar h (jfr h 150 r0) (ixn x1)), vR 6 r2]) okX24_grouped rfl rfl rfl rfl rfl rfl (jstp_up (sa := [vR 6 r2]) (st := []) rfl (lw_g (jtb_mem (c := 11) (i := 13) rfl) rfl) um92 okX24_grouped g_5 (fun _ _ => by rw [e_9]; exact ⟨rfl, rfl⟩) rfl rfl) w (fun h_6 _ _ w => ?_)
      refine jw_gen (ls' := [some (vR 33 r0), some (vI x1), none, none]) (st' := []) (And.intro (Or.inl rfl) (And.intro (Or.inl rfl) (trivial))) (trivial) ?_
      exact w_X40_order_54 w
    · refine jw_cV (st := []) (sa := [vR 55 (jar h (jfr h 150 r0) (ixn x1)), vR 6 r2]) okX24_grouped rfl rfl rfl rfl rfl rfl (jstp_up (sa := [vR 6 r2]) (st := []) rfl (lw_g (jtb_mem (c := 11) (i := 13) rfl) rfl) um93 okX24_grouped g_5 (fun _ _ => by rw [e_9]; exact ⟨rfl, rfl⟩) rfl rfl) w (fun h_6 _ _ w => ?_)
      refine jw_gen (ls' := [some (vR 33 r0), some (vI x1), none, none]) (st' := []) (And.intro (Or.inl rfl) (And.intro (Or.inl rfl) (trivial))) (trivial) ?_
      exact w_X40_order_54 w
    · refine jw_cV (st := []) (sa := [vR 55 (jar h (jfr h 150 r0) (ixn x1)), vR 6 r2]) okX24_grouped rfl rfl rfl rfl rfl rfl (jstp_up (sa := [vR 6 r2]) (st := []) rfl (lw_g (jtb_mem (c := 11) (i := 13) rfl) rfl) um94 okX24_grouped g_5 (fun _ _ => by rw [e_9]; exact ⟨rfl, rfl⟩) rfl rfl) w (fun h_6 _ _ w => ?_)
      refine jw_gen (ls' := [some (vR 33 r0), some (vI x1), none, none]) (st' := []) (And.intro (Or.inl rfl) (And.intro (Or.inl rfl) (trivial))) (trivial) ?_
      exact w_X40_order_54 w
    · refine jw_cV (st := []) (sa := [vR 55 (jar h (jfr h 150 r0) (ixn x1)), vR 6 r2]) okX24_grouped rfl rfl rfl rfl rfl rfl (jstp_up (sa := [vR 6 r2]) (st := []) rfl (lw_g (jtb_mem (c := 11) (i := 13) rfl) rfl) um95 okX24_grouped g_5 (fun _ _ => by rw [e_9]; exact ⟨rfl, rfl⟩) rfl rfl) w (fun h_6 _ _ w => ?_)
      refine jw_gen (ls' := [some (vR 33 r0), some (vI x1), none, none]) (st' := []) (And.intro (Or.inl rfl) (And.intro (Or.inl rfl) (trivial))) (trivial) ?_
      exact w_X40_order_54 w
    · refine jw_cV (st := []) (sa := [vR 55 (jar h (jfr h 150 r0) (ixn x1)), vR 6 r2]) okX24_grouped rfl rfl rfl rfl rfl rfl (jstp_up (sa := [vR 6 r2]) (st := []) rfl (lw_g (jtb_mem (c := 11) (i := 13) rfl) rfl) um96 okX24_grouped g_5 (fun _ _ => by rw [e_9]; exact ⟨rfl, rfl⟩) rfl rfl) w (fun h_6 _ _ w => ?_)
      refine jw_gen (ls' := [some (vR 33 r0), some (vI x1), none, none]) (st' := []) (And.intro (Or.inl rfl) (And.intro (Or.inl rfl) (trivial))) (trivial) ?_
      exact w_X40_order_54 w
    · refine jw_cV (st := []) (sa := [vR 55 (jar h (jfr h 150 r0) (ixn x1)), vR 6 r2]) okX24_grouped rfl rfl rfl rfl rfl rfl (jstp_up (sa := [vR 6 r2]) (st := []) rfl (lw_g (jtb_mem (c := 11) (i := 13) rfl) rfl) um97 okX24_grouped g_5 (fun _ _ => by rw [e_9]; exact ⟨rfl, rfl⟩) rfl rfl) w (fun h_6 _ _ w => ?_)
      refine jw_gen (ls' := [some (vR 33 r0), some (vI x1), none, none]) (st' := []) (And.intro (Or.inl rfl) (And.intro (Or.inl rfl) (trivial))) (trivial) ?_
      exact w_X40_order_54 w
def W_X40_order_0 (D : JD) (d : Nat) (Q : JO → JH → Prop) (r0 : Nat) (x1 : Int32) (r2 : Nat) (h : JH) : Prop :=
  r0 ≠ 0 ∧ ((jfr h 150 r0) ≠ 0 ∧ jin x1 (jln h (jfr h 150 r0)) ∧ (cX40_named D d r0 (jar h (jfr h 150 r0) (ixn x1)) h (pI D h (fun v_6 h_4 => (jfr h 152 r0) ≠ 0 ∧ jin x1 (jln h_4 (jfr h 152 r0)) ∧ ∀ h_9 : JH, h_9 = wai h_4 (jfr h 152 r0) (ixn x1) v_6 → ((jfr h_9 152 r0) ≠ 0 ∧ jin x1 (jln h_9 (jfr h_9 152 r0)) ∧ (((jai h_9 (jfr h_9 152 r0) (ixn x1)) < 0 → (jfr h_9 150 r0) ≠ 0 ∧ jin x1 (jln h_9 (jfr h_9 150 r0)) ∧ ((jar h_9 (jfr h_9 150 r0) (ixn x1)) ≠ 0 ∧ (v55_check D d (jar h_9 (jfr h_9 150 r0) (ixn x1)) r2 h_9 (pR D h_9 52 (fun v_19 h_17 => W_X40_order_36 D d Q r0 x1 r2 v_19 h_17) (jth Q))))) ∧ (¬ (jai h_9 (jfr h_9 152 r0) (ixn x1)) < 0 → Q (.inl none) h_9)))) (jth Q))))
theorem w_X40_order_0 {D : JD} {d : Nat} {Q : JO → JH → Prop} {r0 : Nat} {x1 : Int32} {r2 : Nat} {h : JH} (w : W_X40_order_0 D d Q r0 x1 r2 h) : JW D (d + 1) mX40_order 0 [some (vR 33 r0), some (vI x1), some (vR 6 r2), none] [] h Q := by
  unfold W_X40_order_0 at w
  refine jw_aload_n (pc' := 1) rfl rfl ?_
  obtain ⟨g_1, w⟩ := w
  refine jw_getR (pc' := 4) (F := 152) (t' := 157) rfl rfl rfl rfl rfl g_1 ?_
  refine jw_iload_n (pc' := 5) rfl rfl ?_
  refine jw_aload_n (pc' := 6) rfl rfl ?_
  refine jw_aload_n (pc' := 7) rfl rfl ?_
  refine jw_getR (pc' := 10) (F := 150) (t' := 155) rfl rfl rfl rfl rfl g_1 ?_
  refine jw_iload_n (pc' := 11) rfl rfl ?_
  obtain ⟨g_2, w⟩ := w
  obtain ⟨g_3, w⟩ := w
  refine jw_aald (pc' := 12) (t' := 55) rfl rfl rfl rfl g_2 g_3.ix g_3.2 ?_
  refine jw_cI (st := [vI x1, vR 157 (jfr h 152 r0)]) (sa := [vR 33 r0, vR 55 (jar h (jfr h 150 r0) (ixn x1))]) okX40_named rfl rfl rfl rfl rfl rfl (jstp_virtual (sa := [vR 55 (jar h (jfr h 150 r0) (ixn x1))]) (st := [vI x1, vR 157 (jfr h 152 r0)]) (k := 0) rfl rfl sX40_named okX40_named g_1 (one33.k g_1) rfl rfl) w (fun v_6 h_4 _ _ w => ?_)
  obtain ⟨g_7, w⟩ := w
  obtain ⟨g_8, w⟩ := w
  refine jw_iast' (pc' := 16) rfl rfl rfl rfl rfl g_7 g_8 (fun h_9 e_10 => ?_)
  replace w := w h_9 e_10
  refine jw_aload_n (pc' := 17) rfl rfl ?_
  refine jw_getR (pc' := 20) (F := 152) (t' := 157) rfl rfl rfl rfl rfl g_1 ?_
  refine jw_iload_n (pc' := 21) rfl rfl ?_
  obtain ⟨g_11, w⟩ := w
  obtain ⟨g_12, w⟩ := w
  refine jw_iald (pc' := 22) rfl rfl rfl rfl g_11 g_12.ix g_12.2 ?_
  refine jw_if_lt (tgt := 26) (pc' := 25) rfl rfl (fun c_13 => ?_) (fun c_13 => ?_)
  · replace w := w.1 c_13
    refine jw_aload_n (pc' := 27) rfl rfl ?_
    refine jw_getR (pc' := 30) (F := 150) (t' := 155) rfl rfl rfl rfl rfl g_1 ?_
    refine jw_iload_n (pc' := 31) rfl rfl ?_
    obtain ⟨g_14, w⟩ := w
    obtain ⟨g_15, w⟩ := w
    refine jw_aald (pc' := 32) (t' := 55) rfl rfl rfl rfl g_14 g_15.ix g_15.2 ?_
    refine jw_aload_n (pc' := 33) rfl rfl ?_
    obtain ⟨g_16, w⟩ := w
    refine JW.inv (fun hI => JW.oks (fun ho => ?_))
    have hkd := und55.k hI (ho (vR 55 (jar h_9 (jfr h_9 150 r0) (ixn x1))) (by simp)) g_16
    simp only [List.mem_cons, List.not_mem_nil, or_false] at hkd
    clear ho hI
    rcases hkd with e_20 | e_20 | e_20 | e_20 | e_20 | e_20 | e_20 | e_20 | e_20 | e_20
    · refine jw_gen (ls' := _) (st' := [vR 6 r2, vR 20 (jar h_9 (jfr h_9 150 r0) (ixn x1))]) (jgl_rf _ _) (And.intro (Or.inl rfl) (And.intro (Or.inr ⟨_, _, _, rfl, rfl, Or.inr (Or.inr (by rw [e_20]; rfl))⟩) (jgs_rf _ _))) ?_
      refine jw_cR (st := []) (sa := [vR 20 (jar h_9 (jfr h_9 150 r0) (ixn x1)), vR 6 r2]) okX25_check rfl rfl rfl rfl rfl rfl (jstp_up (sa := [vR 6 r2]) (st := []) rfl (lw_g (jtb_mem (c := 10) (i := 190) rfl) rfl) um18 okX25_check g_16 (fun _ _ => by rw [e_20]; exact ⟨rfl, rfl⟩) rfl rfl) (w.1 e_20) (fun v_19 h_17 _ _ _ w => ?_)
      exact w_X40_order_36 w
    · refine jw_gen (ls' := _) (st' := [vR 6 r2, vR 21 (jar h_9 (jfr h_9 150 r0) (ixn x1))]) (jgl_rf _ _) (And.intro (Or.inl rfl) (And.intro (Or.inr ⟨_, _, _, rfl, rfl, Or.inr (Or.inr (by rw [e_20]; rfl))⟩) (jgs_rf _ _))) ?_
      refine jw_cR (st := []) (sa := [vR 21 (jar h_9 (jfr h_9 150 r0) (ixn x1)), vR 6 r2]) okX27_check rfl rfl rfl rfl rfl rfl (jstp_up (sa := [vR 6 r2]) (st := []) rfl (lw_g (jtb_mem (c := 10) (i := 190) rfl) rfl) um19 okX27_check g_16 (fun _ _ => by rw [e_20]; exact ⟨rfl, rfl⟩) rfl rfl) (w.2.1 e_20) (fun v_19 h_17 _ _ _ w => ?_)
      exact w_X40_order_36 w
    · refine jw_gen (ls' := _) (st' := [vR 6 r2, vR 22 (jar h_9 (jfr h_9 150 r0) (ixn x1))]) (jgl_rf _ _) (And.intro (Or.inl rfl) (And.intro (Or.inr ⟨_, _, _, rfl, rfl, Or.inr (Or.inr (by rw [e_20]; rfl))⟩) (jgs_rf _ _))) ?_
      refine jw_cR (st := []) (sa := [vR 22 (jar h_9 (jfr h_9 150 r0) (ixn x1)), vR 6 r2]) okX28_check rfl rfl rfl rfl rfl rfl (jstp_up (sa := [vR 6 r2]) (st := []) rfl (lw_g (jtb_mem (c := 10) (i := 190) rfl) rfl) um20 okX28_check g_16 (fun _ _ => by rw [e_20]; exact ⟨rfl, rfl⟩) rfl rfl) (w.2.2.1 e_20) (fun v_19 h_17 _ _ _ w => ?_)
      exact w_X40_order_36 w
    · refine jw_gen (ls' := _) (st' := [vR 6 r2, vR 23 (jar h_9 (jfr h_9 150 r0) (ixn x1))]) (jgl_rf _ _) (And.intro (Or.inl rfl) (And.intro (Or.inr ⟨_, _, _, rfl, rfl, Or.inr (Or.inr (by rw [e_20]; rfl))⟩) (jgs_rf _ _))) ?_
      refine jw_cR (st := []) (sa := [vR 23 (jar h_9 (jfr h_9 150 r0) (ixn x1)), vR 6 r2]) okX29_check rfl rfl rfl rfl rfl rfl (jstp_up (sa := [vR 6 r2]) (st := []) rfl (lw_g (jtb_mem (c := 10) (i := 190) rfl) rfl) um21 okX29_check g_16 (fun _ _ => by rw [e_20]; exact ⟨rfl, rfl⟩) rfl rfl) (w.2.2.2.1 e_20) (fun v_19 h_17 _ _ _ w => ?_)
      exact w_X40_order_36 w
    · refine jw_gen (ls' := _) (st' := [vR 6 r2, vR 24 (jar h_9 (jfr h_9 150 r0) (ixn x1))]) (jgl_rf _ _) (And.intro (Or.inl rfl) (And.intro (Or.inr ⟨_, _, _, rfl, rfl, Or.inr (Or.inr (by rw [e_20]; rfl))⟩) (jgs_rf _ _))) ?_
      refine jw_cR (st := []) (sa := [vR 24 (jar h_9 (jfr h_9 150 r0) (ixn x1)), vR 6 r2]) okX30_check rfl rfl rfl rfl rfl rfl (jstp_up (sa := [vR 6 r2]) (st := []) rfl (lw_g (jtb_mem (c := 10) (i := 190) rfl) rfl) um22 okX30_check g_16 (fun _ _ => by rw [e_20]; exact ⟨rfl, rfl⟩) rfl rfl) (w.2.2.2.2.1 e_20) (fun v_19 h_17 _ _ _ w => ?_)
      exact w_X40_order_36 w
    · refine jw_gen (ls' := _) (st' := [vR 6 r2, vR 25 (jar h_9 (jfr h_9 150 r0) (ixn x1))]) (jgl_rf _ _) (And.intro (Or.inl rfl) (And.intro (Or.inr ⟨_, _, _, rfl, rfl, Or.inr (Or.inr (by rw [e_20]; rfl))⟩) (jgs_rf _ _))) ?_
      refine jw_cR (st := []) (sa := [vR 25 (jar h_9 (jfr h_9 150 r0) (ixn x1)), vR 6 r2]) okX31_check rfl rfl rfl rfl rfl rfl (jstp_up (sa := [vR 6 r2]) (st := []) rfl (lw_g (jtb_mem (c := 10) (i := 190) rfl) rfl) um23 okX31_check g_16 (fun _ _ => by rw [e_20]; exact ⟨rfl, rfl⟩) rfl rfl) (w.2.2.2.2.2.1 e_20) (fun v_19 h_17 _ _ _ w => ?_)
      exact w_X40_order_36 w
    · refine jw_gen (ls' := _) (st' := [vR 6 r2, vR 26 (jar h_9 (jfr h_9 150 r0) (ixn x1))]) (jgl_rf _ _) (And.intro (Or.inl rfl) (And.intro (Or.inr ⟨_, _, _, rfl, rfl, Or.inr (Or.inr (by rw [e_20]; rfl))⟩) (jgs_rf _ _))) ?_
      refine jw_cR (st := []) (sa := [vR 26 (jar h_9 (jfr h_9 150 r0) (ixn x1)), vR 6 r2]) okX32_check rfl rfl rfl rfl rfl rfl (jstp_up (sa := [vR 6 r2]) (st := []) rfl (lw_g (jtb_mem (c := 10) (i := 190) rfl) rfl) um24 okX32_check g_16 (fun _ _ => by rw [e_20]; exact ⟨rfl, rfl⟩) rfl rfl) (w.2.2.2.2.2.2.1 e_20) (fun v_19 h_17 _ _ _ w => ?_)
      exact w_X40_order_36 w
    · refine jw_gen (ls' := _) (st' := [vR 6 r2, vR 27 (jar h_9 (jfr h_9 150 r0) (ixn x1))]) (jgl_rf _ _) (And.intro (Or.inl rfl) (And.intro (Or.inr ⟨_, _, _, rfl, rfl, Or.inr (Or.inr (by rw [e_20]; rfl))⟩) (jgs_rf _ _))) ?_
      refine jw_cR (st := []) (sa := [vR 27 (jar h_9 (jfr h_9 150 r0) (ixn x1)), vR 6 r2]) okX33_check rfl rfl rfl rfl rfl rfl (jstp_up (sa := [vR 6 r2]) (st := []) rfl (lw_g (jtb_mem (c := 10) (i := 190) rfl) rfl) um25 okX33_check g_16 (fun _ _ => by rw [e_20]; exact ⟨rfl, rfl⟩) rfl rfl) (w.2.2.2.2.2.2.2.1 e_20) (fun v_19 h_17 _ _ _ w => ?_)
      exact w_X40_order_36 w
    · refine jw_gen (ls' := _) (st' := [vR 6 r2, vR 28 (jar h_9 (jfr h_9 150 r0) (ixn x1))]) (jgl_rf _ _) (And.intro (Or.inl rfl) (And.intro (Or.inr ⟨_, _, _, rfl, rfl, Or.inr (Or.inr (by rw [e_20]; rfl))⟩) (jgs_rf _ _))) ?_
      refine jw_cR (st := []) (sa := [vR 28 (jar h_9 (jfr h_9 150 r0) (ixn x1)), vR 6 r2]) okX34_check rfl rfl rfl rfl rfl rfl (jstp_up (sa := [vR 6 r2]) (st := []) rfl (lw_g (jtb_mem (c := 10) (i := 190) rfl) rfl) um26 okX34_check g_16 (fun _ _ => by rw [e_20]; exact ⟨rfl, rfl⟩) rfl rfl) (w.2.2.2.2.2.2.2.2.1 e_20) (fun v_19 h_17 _ _ _ w => ?_)
      exact w_X40_order_36 w
    · refine jw_gen (ls' := _) (st' := [vR 6 r2, vR 29 (jar h_9 (jfr h_9 150 r0) (ixn x1))]) (jgl_rf _ _) (And.intro (Or.inl rfl) (And.intro (Or.inr ⟨_, _, _, rfl, rfl, Or.inr (Or.inr (by rw [e_20]; rfl))⟩) (jgs_rf _ _))) ?_
      refine jw_cR (st := []) (sa := [vR 29 (jar h_9 (jfr h_9 150 r0) (ixn x1)), vR 6 r2]) okX35_check rfl rfl rfl rfl rfl rfl (jstp_up (sa := [vR 6 r2]) (st := []) rfl (lw_g (jtb_mem (c := 10) (i := 190) rfl) rfl) um27 okX35_check g_16 (fun _ _ => by rw [e_20]; exact ⟨rfl, rfl⟩) rfl rfl) (w.2.2.2.2.2.2.2.2.2 e_20) (fun v_19 h_17 _ _ _ w => ?_)
      exact w_X40_order_36 w
  · replace w := w.2 c_13
    exact jw_return rfl rfl w
def T_X40_order (D : JD) (d : Nat) (Q : JO → JH → Prop) (r0 : Nat) (x1 : Int32) (r2 : Nat) (h : JH) : Prop := W_X40_order_0 D d Q r0 x1 r2 h
theorem t_X40_order {D : JD} {d : Nat} {Q : JO → JH → Prop} {r0 : Nat} {x1 : Int32} {r2 : Nat} {h : JH} (w : T_X40_order D d Q r0 x1 r2 h) : cX40_order D (d + 1) r0 x1 r2 h Q := by
  unfold T_X40_order at w
  unfold cX40_order
  exact w_X40_order_0 w
