/-! what each method needs (printed by tools/gen_wp.py) -/
set_option maxRecDepth 4000
def W_X8_wordy_33 (D : JD) (d : Nat) (Q : JO → JH → Prop) (K5 : Nat → Int32 → JH → Prop) (r0 : Nat) (x1 : Int32) (h : JH) : Prop :=
  r0 ≠ 0 ∧ (∀ h_2 : JH, h_2 = wfi h 185 r0 ((jfi h 185 r0) + (1 : Int32)) → (K5 r0 x1 h_2))
theorem w_X8_wordy_33 {D : JD} {d : Nat} {Q : JO → JH → Prop} {K5 : Nat → Int32 → JH → Prop} {r0 : Nat} {x1 : Int32} {h : JH} (hK5 : ∀ (r0 : Nat) (x1 : Int32) (h : JH), K5 r0 x1 h → JW D (d + 1) mX8_wordy 5 [some (vR 41 r0), some (vI x1), none] [] h Q) (w : W_X8_wordy_33 D d Q K5 r0 x1 h) : JW D (d + 1) mX8_wordy 33 [some (vR 41 r0), some (vI x1), none] [] h Q := by
  unfold W_X8_wordy_33 at w
  refine jw_aload_n (pc' := 34) rfl rfl ?_
  refine jw_dup (pc' := 35) rfl rfl ?_
  obtain ⟨g_1, w⟩ := w
  refine jw_getI (pc' := 38) (F := 185) rfl rfl rfl rfl g_1 ?_
  refine jw_iconst (pc' := 39) (x := (1 : Int32)) rfl rfl ?_
  refine jw_iadd (pc' := 40) rfl ?_
  refine jw_putI' (pc' := 43) (F := 185) rfl rfl rfl (Or.inr rfl) (Or.inl rfl) rfl (rfl) (rfl) rfl g_1 (fun h_2 e_3 => ?_)
  replace w := w h_2 e_3
  refine jw_goto (pc' := 5) rfl rfl ?_
  exact hK5 _ _ _ w
def W_X8_wordy_94 (D : JD) (d : Nat) (Q : JO → JH → Prop) (q0 : Nat) (s1 : Int32) (h : JH) : Prop :=
  q0 ≠ 0 ∧ ∀ h_2 : JH, h_2 = wfi h 183 q0 s1 → (Q (.inl none) h_2)
theorem w_X8_wordy_94 {D : JD} {d : Nat} {Q : JO → JH → Prop} {q0 : Nat} {s1 : Int32} {h : JH} (w : W_X8_wordy_94 D d Q q0 s1 h) : JW D (d + 1) mX8_wordy 94 [none, none, none] [vI s1, vR 41 q0] h Q := by
  unfold W_X8_wordy_94 at w
  obtain ⟨g_1, w⟩ := w
  refine jw_putI' (pc' := 97) (F := 183) rfl rfl rfl (Or.inr rfl) (Or.inl rfl) rfl (rfl) (rfl) rfl g_1 (fun h_2 e_3 => ?_)
  replace w := w h_2 e_3
  exact jw_return rfl rfl w
def W_X8_wordy_5 (D : JD) (d : Nat) (Q : JO → JH → Prop) (K5 : Nat → Int32 → JH → Prop) (r0 : Nat) (x1 : Int32) (h : JH) : Prop :=
  r0 ≠ 0 ∧ (cX8_at D d r0 (jfi h 185 r0) h (pI D h (fun v_4 h_2 => cX8_letter D d v_4 h_2 (pI D h_2 (fun v_7 h_5 => (¬ v_7 = 0 → W_X8_wordy_33 D d Q K5 r0 x1 h_5) ∧ (v_7 = 0 → cX8_at D d r0 (jfi h_5 185 r0) h_5 (pI D h_5 (fun v_11 h_9 => cX8_digit D d v_11 h_9 (pI D h_9 (fun v_14 h_12 => (v_14 = 0 → cX8_knownWord D d r0 x1 h_12 (pI D h_12 (fun v_18 h_16 => (jfr h_16 192 r0) ≠ 0 ∧ jin v_18 (jln h_16 (jfr h_16 192 r0)) ∧ (∀ h_21 : JH, h_21 = wfr h_16 186 r0 (jar h_16 (jfr h_16 192 r0) (ixn v_18)) → ((jfr h_21 193 r0) ≠ 0 ∧ jin v_18 (jln h_21 (jfr h_21 193 r0)) ∧ (((jai h_21 (jfr h_21 193 r0) (ixn v_18)) = 0 → (jfr h_21 186 r0) ≠ 0 ∧ (cJ5_length D d (jfr h_21 186 r0) h_21 (pI D h_21 (fun v_29 h_27 => ((20 : Int32) < v_29 → W_X8_wordy_94 D d Q r0 (7 : Int32) h_27) ∧ (¬ (20 : Int32) < v_29 → W_X8_wordy_94 D d Q r0 (2 : Int32) h_27)) (jth Q)))) ∧ (¬ (jai h_21 (jfr h_21 193 r0) (ixn v_18)) = 0 → W_X8_wordy_94 D d Q r0 (1 : Int32) h_21))))) (jth Q))) ∧ (¬ v_14 = 0 → W_X8_wordy_33 D d Q K5 r0 x1 h_12)) (jth Q))) (jth Q)))) (jth Q))) (jth Q)))
theorem w_X8_wordy_5 {D : JD} {d : Nat} {Q : JO → JH → Prop} {K5 : Nat → Int32 → JH → Prop} {r0 : Nat} {x1 : Int32} {h : JH} (hK5 : ∀ (r0 : Nat) (x1 : Int32) (h : JH), K5 r0 x1 h → JW D (d + 1) mX8_wordy 5 [some (vR 41 r0), some (vI x1), none] [] h Q) (w : W_X8_wordy_5 D d Q K5 r0 x1 h) : JW D (d + 1) mX8_wordy 5 [some (vR 41 r0), some (vI x1), none] [] h Q := by
  unfold W_X8_wordy_5 at w
  refine jw_aload_n (pc' := 6) rfl rfl ?_
  refine jw_aload_n (pc' := 7) rfl rfl ?_
  obtain ⟨g_1, w⟩ := w
  refine jw_getI (pc' := 10) (F := 185) rfl rfl rfl rfl g_1 ?_
  refine jw_cI (st := []) (sa := [vR 41 r0, vI (jfi h 185 r0)]) okX8_at rfl rfl rfl rfl rfl rfl (jstp_virtual (sa := [vI (jfi h 185 r0)]) (st := []) (k := 0) rfl rfl sX8_at okX8_at g_1 (one41.k g_1) rfl rfl) w (fun v_4 h_2 _ _ w => ?_)
  refine jw_cI (st := []) (sa := [vI v_4]) okX8_letter rfl rfl rfl rfl rfl rfl (jstp_static (sa := [vI v_4]) (st := []) rfl rfl sX8_letter okX8_letter rfl rfl) w (fun v_7 h_5 _ _ w => ?_)
  refine jw_if_ne (tgt := 33) (pc' := 19) rfl rfl (fun c_8 => ?_) (fun c_8 => ?_)
  · replace w := w.1 c_8
    exact w_X8_wordy_33 hK5 w
  · replace w := w.2 c_8
    refine jw_aload_n (pc' := 20) rfl rfl ?_
    refine jw_aload_n (pc' := 21) rfl rfl ?_
    refine jw_getI (pc' := 24) (F := 185) rfl rfl rfl rfl g_1 ?_
    refine jw_cI (st := []) (sa := [vR 41 r0, vI (jfi h_5 185 r0)]) okX8_at rfl rfl rfl rfl rfl rfl (jstp_virtual (sa := [vI (jfi h_5 185 r0)]) (st := []) (k := 0) rfl rfl sX8_at okX8_at g_1 (one41.k g_1) rfl rfl) w (fun v_11 h_9 _ _ w => ?_)
    refine jw_cI (st := []) (sa := [vI v_11]) okX8_digit rfl rfl rfl rfl rfl rfl (jstp_static (sa := [vI v_11]) (st := []) rfl rfl sX8_digit okX8_digit rfl rfl) w (fun v_14 h_12 _ _ w => ?_)
    refine jw_if_eq (tgt := 46) (pc' := 33) rfl rfl (fun c_15 => ?_) (fun c_15 => ?_)
    · replace w := w.1 c_15
      refine jw_aload_n (pc' := 47) rfl rfl ?_
      refine jw_iload_n (pc' := 48) rfl rfl ?_
      refine jw_cI (st := []) (sa := [vR 41 r0, vI x1]) okX8_knownWord rfl rfl rfl rfl rfl rfl (jstp_virtual (sa := [vI x1]) (st := []) (k := 0) rfl rfl sX8_knownWord okX8_knownWord g_1 (one41.k g_1) rfl rfl) w (fun v_18 h_16 _ _ w => ?_)
      refine jw_istore_n (pc' := 52) (ls' := [some (vR 41 r0), some (vI x1), some (vI v_18)]) rfl (by decide) rfl ?_
      refine jw_aload_n (pc' := 53) rfl rfl ?_
      refine jw_aload_n (pc' := 54) rfl rfl ?_
      refine jw_getR (pc' := 57) (F := 192) (t' := 165) rfl rfl rfl rfl rfl g_1 ?_
      refine jw_iload_n (pc' := 58) rfl rfl ?_
      obtain ⟨g_19, w⟩ := w
      obtain ⟨g_20, w⟩ := w
      refine jw_aald (pc' := 59) (t' := 64) rfl rfl rfl rfl g_19 g_20.ix g_20.2 ?_
      refine jw_putR' (pc' := 62) (F := 186) rfl rfl rfl (Or.inr rfl) (Or.inl rfl) rfl rfl rfl g_1 (fun h_21 e_22 => ?_)
      replace w := w h_21 e_22
      refine jw_aload_n (pc' := 63) rfl rfl ?_
      refine jw_aload_n (pc' := 64) rfl rfl ?_
      refine jw_getR (pc' := 67) (F := 193) (t' := 166) rfl rfl rfl rfl rfl g_1 ?_
      refine jw_iload_n (pc' := 68) rfl rfl ?_
      obtain ⟨g_23, w⟩ := w
      obtain ⟨g_24, w⟩ := w
      refine jw_zald (pc' := 69) rfl rfl rfl rfl g_23 g_24.ix g_24.2 ?_
      refine jw_if_eq (tgt := 76) (pc' := 72) rfl rfl (fun c_25 => ?_) (fun c_25 => ?_)
      · replace w := w.1 c_25
        refine jw_aload_n (pc' := 77) rfl rfl ?_
        refine jw_getR (pc' := 80) (F := 186) (t' := 64) rfl rfl rfl rfl rfl g_1 ?_
        obtain ⟨g_26, w⟩ := w
        refine jw_cI (st := [vR 41 r0]) (sa := [vR 64 (jfr h_21 186 r0)]) okJ5_length rfl rfl rfl rfl rfl rfl (jstp_virtual (sa := []) (st := [vR 41 r0]) (k := 0) rfl rfl sJ5_length okJ5_length g_26 (one64.k g_26) rfl rfl) w (fun v_29 h_27 _ _ w => ?_)
        refine jw_bipush (pc' := 85) (x := (20 : Int32)) rfl rfl ?_
        refine jw_icmp_gt (tgt := 92) (pc' := 88) rfl rfl (fun c_30 => ?_) (fun c_30 => ?_)
        · replace w := w.1 c_30
          refine jw_bipush (pc' := 94) (x := (7 : Int32)) rfl rfl ?_
          refine jw_gen (ls' := [none, none, none]) (st' := [vI (7 : Int32), vR 41 r0]) (trivial) (And.intro (Or.inl rfl) (And.intro (Or.inl rfl) (trivial))) ?_
          exact w_X8_wordy_94 w
        · replace w := w.2 c_30
          refine jw_iconst (pc' := 89) (x := (2 : Int32)) rfl rfl ?_
          refine jw_goto (pc' := 94) rfl rfl ?_
          refine jw_gen (ls' := [none, none, none]) (st' := [vI (2 : Int32), vR 41 r0]) (trivial) (And.intro (Or.inl rfl) (And.intro (Or.inl rfl) (trivial))) ?_
          exact w_X8_wordy_94 w
      · replace w := w.2 c_25
        refine jw_iconst (pc' := 73) (x := (1 : Int32)) rfl rfl ?_
        refine jw_goto (pc' := 94) rfl rfl ?_
        refine jw_gen (ls' := [none, none, none]) (st' := [vI (1 : Int32), vR 41 r0]) (trivial) (And.intro (Or.inl rfl) (And.intro (Or.inl rfl) (trivial))) ?_
        exact w_X8_wordy_94 w
    · replace w := w.2 c_15
      exact w_X8_wordy_33 hK5 w
def L_X8_wordy_5 (D : JD) (d : Nat) (Q : JO → JH → Prop) : Nat → Nat → Int32 → JH → Prop
  | 0 => fun _ _ _ => False
  | n + 1 => fun r0 x1 h => W_X8_wordy_5 D d Q (L_X8_wordy_5 D d Q n) r0 x1 h
theorem l_X8_wordy_5 {D : JD} {d : Nat} {Q : JO → JH → Prop} : ∀ (n : Nat) (r0 : Nat) (x1 : Int32) (h : JH), L_X8_wordy_5 D d Q n r0 x1 h → JW D (d + 1) mX8_wordy 5 [some (vR 41 r0), some (vI x1), none] [] h Q := by
  intro n
  induction n with
  | zero => intro _ _ _ w; exact w.elim
  | succ n ih => intro _ _ h w; exact w_X8_wordy_5 ih w
def W_X8_wordy_0 (D : JD) (d : Nat) (Q : JO → JH → Prop) (r0 : Nat) (h : JH) : Prop :=
  r0 ≠ 0 ∧ (∃ n, L_X8_wordy_5 D d Q n r0 (jfi h 185 r0) h)
theorem w_X8_wordy_0 {D : JD} {d : Nat} {Q : JO → JH → Prop} {r0 : Nat} {h : JH} (w : W_X8_wordy_0 D d Q r0 h) : JW D (d + 1) mX8_wordy 0 [some (vR 41 r0), none, none] [] h Q := by
  unfold W_X8_wordy_0 at w
  refine jw_aload_n (pc' := 1) rfl rfl ?_
  obtain ⟨g_1, w⟩ := w
  refine jw_getI (pc' := 4) (F := 185) rfl rfl rfl rfl g_1 ?_
  refine jw_istore_n (pc' := 5) (ls' := [some (vR 41 r0), some (vI (jfi h 185 r0)), none]) rfl (by decide) rfl ?_
  obtain ⟨n, w⟩ := w
  exact l_X8_wordy_5 n _ _ _ w
def T_X8_wordy (D : JD) (d : Nat) (Q : JO → JH → Prop) (r0 : Nat) (h : JH) : Prop := W_X8_wordy_0 D d Q r0 h
theorem t_X8_wordy {D : JD} {d : Nat} {Q : JO → JH → Prop} {r0 : Nat} {h : JH} (w : T_X8_wordy D d Q r0 h) : cX8_wordy D (d + 1) r0 h Q := by
  unfold T_X8_wordy at w
  unfold cX8_wordy
  exact w_X8_wordy_0 w
def W_X8_digit_17 (D : JD) (d : Nat) (Q : JO → JH → Prop) (s0 : Int32) (h : JH) : Prop :=
  jbo s0 ∧ (Q (.inl (some (vI s0))) h)
theorem w_X8_digit_17 {D : JD} {d : Nat} {Q : JO → JH → Prop} {s0 : Int32} {h : JH} (w : W_X8_digit_17 D d Q s0 h) : JW D (d + 1) mX8_digit 17 [none] [vI s0] h Q := by
  unfold W_X8_digit_17 at w
  obtain ⟨g_1, w⟩ := w
  exact jw_ireturn rfl rfl (g_1.nr) w
def W_X8_digit_16 (D : JD) (d : Nat) (Q : JO → JH → Prop) (h : JH) : Prop :=
  W_X8_digit_17 D d Q (0 : Int32) h
theorem w_X8_digit_16 {D : JD} {d : Nat} {Q : JO → JH → Prop} {h : JH} (w : W_X8_digit_16 D d Q h) : JW D (d + 1) mX8_digit 16 [none] [] h Q := by
  unfold W_X8_digit_16 at w
  refine jw_iconst (pc' := 17) (x := (0 : Int32)) rfl rfl ?_
  exact w_X8_digit_17 w
def W_X8_digit_0 (D : JD) (d : Nat) (Q : JO → JH → Prop) (x0 : Int32) (h : JH) : Prop :=
  (x0 < (48 : Int32) → W_X8_digit_16 D d Q h) ∧ (¬ x0 < (48 : Int32) → ((57 : Int32) < x0 → W_X8_digit_16 D d Q h) ∧ (¬ (57 : Int32) < x0 → W_X8_digit_17 D d Q (1 : Int32) h))
theorem w_X8_digit_0 {D : JD} {d : Nat} {Q : JO → JH → Prop} {x0 : Int32} {h : JH} (w : W_X8_digit_0 D d Q x0 h) : JW D (d + 1) mX8_digit 0 [some (vI x0)] [] h Q := by
  unfold W_X8_digit_0 at w
  refine jw_iload_n (pc' := 1) rfl rfl ?_
  refine jw_bipush (pc' := 3) (x := (48 : Int32)) rfl rfl ?_
  refine jw_icmp_lt (tgt := 16) (pc' := 6) rfl rfl (fun c_1 => ?_) (fun c_1 => ?_)
  · replace w := w.1 c_1
    refine jw_gen (ls' := [none]) (st' := []) (trivial) (trivial) ?_
    exact w_X8_digit_16 w
  · replace w := w.2 c_1
    refine jw_iload_n (pc' := 7) rfl rfl ?_
    refine jw_bipush (pc' := 9) (x := (57 : Int32)) rfl rfl ?_
    refine jw_icmp_gt (tgt := 16) (pc' := 12) rfl rfl (fun c_2 => ?_) (fun c_2 => ?_)
    · replace w := w.1 c_2
      refine jw_gen (ls' := [none]) (st' := []) (trivial) (trivial) ?_
      exact w_X8_digit_16 w
    · replace w := w.2 c_2
      refine jw_iconst (pc' := 13) (x := (1 : Int32)) rfl rfl ?_
      refine jw_goto (pc' := 17) rfl rfl ?_
      refine jw_gen (ls' := [none]) (st' := [vI (1 : Int32)]) (trivial) (And.intro (Or.inl rfl) (trivial)) ?_
      exact w_X8_digit_17 w
def T_X8_digit (D : JD) (d : Nat) (Q : JO → JH → Prop) (x0 : Int32) (h : JH) : Prop := W_X8_digit_0 D d Q x0 h
theorem t_X8_digit {D : JD} {d : Nat} {Q : JO → JH → Prop} {x0 : Int32} {h : JH} (w : T_X8_digit D d Q x0 h) : cX8_digit D (d + 1) x0 h Q := by
  unfold T_X8_digit at w
  unfold cX8_digit
  exact w_X8_digit_0 w
def W_X8_knownWord_239 (D : JD) (d : Nat) (Q : JO → JH → Prop) (x5 : Int32) (q0 : Nat) (s1 : Int32) (s2 : Int32) (h : JH) : Prop :=
  q0 ≠ 0 ∧ jin s1 (jln h q0) ∧ jbo s2 ∧ ∀ h_4 : JH, h_4 = wai h q0 (ixn s1) s2 → (Q (.inl (some (vI x5))) h_4)
theorem w_X8_knownWord_239 {D : JD} {d : Nat} {Q : JO → JH → Prop} {x5 : Int32} {q0 : Nat} {s1 : Int32} {s2 : Int32} {h : JH} (w : W_X8_knownWord_239 D d Q x5 q0 s1 s2 h) : JW D (d + 1) mX8_knownWord 239 [none, none, none, none, none, some (vI x5), none] [vI s2, vI s1, vR 166 q0] h Q := by
  unfold W_X8_knownWord_239 at w
  obtain ⟨g_1, w⟩ := w
  obtain ⟨g_2, w⟩ := w
  obtain ⟨g_3, w⟩ := w
  refine jw_zast' (pc' := 240) rfl rfl rfl rfl rfl (g_3.nr) g_1 g_2 (fun h_4 e_5 => ?_)
  replace w := w h_4 e_5
  refine jw_iload (pc' := 242) rfl rfl ?_
  exact jw_ireturn rfl rfl (rfl) w
def W_X8_knownWord_202 (D : JD) (d : Nat) (Q : JO → JH → Prop) (r0 : Nat) (x2 : Int32) (r4 : Nat) (x5 : Int32) (h : JH) : Prop :=
  r0 ≠ 0 ∧ (r4 ≠ 0 ∧ (cJ5_substring D d r4 (1 : Int32) (x2 + (1 : Int32)) h (pR D h 64 (fun v_5 h_3 => (jfr h 192 r0) ≠ 0 ∧ jin x5 (jln h_3 (jfr h 192 r0)) ∧ ∀ h_8 : JH, h_8 = war h_3 (jfr h 192 r0) (ixn x5) v_5 → ((jcs D 233) ≠ 0 ∧ (cJ5_indexOf D d (jcs D 233) r4 h_8 (pI D h_8 (fun v_13 h_11 => (v_13 < 0 → W_X8_knownWord_239 D d Q x5 (jfr h_8 193 r0) x5 (0 : Int32) h_11) ∧ (¬ v_13 < 0 → W_X8_knownWord_239 D d Q x5 (jfr h_8 193 r0) x5 (1 : Int32) h_11)) (jth Q))))) (jth Q))))
theorem w_X8_knownWord_202 {D : JD} {d : Nat} {Q : JO → JH → Prop} {r0 : Nat} {x2 : Int32} {r4 : Nat} {x5 : Int32} {h : JH} (w : W_X8_knownWord_202 D d Q r0 x2 r4 x5 h) : JW D (d + 1) mX8_knownWord 202 [some (vR 41 r0), none, some (vI x2), none, some (vR 64 r4), some (vI x5), none] [] h Q := by
  unfold W_X8_knownWord_202 at w
  refine jw_aload_n (pc' := 203) rfl rfl ?_
  obtain ⟨g_1, w⟩ := w
  refine jw_getR (pc' := 206) (F := 192) (t' := 165) rfl rfl rfl rfl rfl g_1 ?_
  refine jw_iload (pc' := 208) rfl rfl ?_
  refine jw_aload (pc' := 210) rfl rfl ?_
  refine jw_iconst (pc' := 211) (x := (1 : Int32)) rfl rfl ?_
  refine jw_iload_n (pc' := 212) rfl rfl ?_
  refine jw_iconst (pc' := 213) (x := (1 : Int32)) rfl rfl ?_
  refine jw_iadd (pc' := 214) rfl ?_
  obtain ⟨g_2, w⟩ := w
  refine jw_cR (st := [vI x5, vR 165 (jfr h 192 r0)]) (sa := [vR 64 r4, vI (1 : Int32), vI (x2 + (1 : Int32))]) okJ5_substring rfl rfl rfl rfl rfl rfl (jstp_virtual (sa := [vI (1 : Int32), vI (x2 + (1 : Int32))]) (st := [vI x5, vR 165 (jfr h 192 r0)]) (k := 0) rfl rfl sJ5_substring okJ5_substring g_2 (one64.k g_2) rfl rfl) w (fun v_5 h_3 _ _ _ w => ?_)
  obtain ⟨g_6, w⟩ := w
  obtain ⟨g_7, w⟩ := w
  refine jw_aast' (pc' := 218) rfl rfl rfl rfl rfl rfl g_6 g_7 (fun h_8 e_9 => ?_)
  replace w := w h_8 e_9
  refine jw_aload_n (pc' := 219) rfl rfl ?_
  refine jw_getR (pc' := 222) (F := 193) (t' := 166) rfl rfl rfl rfl rfl g_1 ?_
  refine jw_iload (pc' := 224) rfl rfl ?_
  refine jw_ldcS (pc' := 226) rfl rfl rfl rfl ?_
  refine jw_aload (pc' := 228) rfl rfl ?_
  obtain ⟨g_10, w⟩ := w
  refine jw_cI (st := [vI x5, vR 166 (jfr h_8 193 r0)]) (sa := [vR 51 (jcs D 233), vR 64 r4]) okJ5_indexOf rfl rfl rfl rfl rfl rfl (jstp_virtual (sa := [vR 64 r4]) (st := [vI x5, vR 166 (jfr h_8 193 r0)]) (k := 0) rfl rfl sJ5_indexOf okJ5_indexOf g_10 (one51.k g_10) rfl rfl) w (fun v_13 h_11 _ _ w => ?_)
  refine jw_if_lt (tgt := 238) (pc' := 234) rfl rfl (fun c_14 => ?_) (fun c_14 => ?_)
  · replace w := w.1 c_14
    refine jw_iconst (pc' := 239) (x := (0 : Int32)) rfl rfl ?_
    refine jw_gen (ls' := [none, none, none, none, none, some (vI x5), none]) (st' := [vI (0 : Int32), vI x5, vR 166 (jfr h_8 193 r0)]) (And.intro (Or.inl rfl) (trivial)) (And.intro (Or.inl rfl) (And.intro (Or.inl rfl) (And.intro (Or.inl rfl) (trivial)))) ?_
    exact w_X8_knownWord_239 w
  · replace w := w.2 c_14
    refine jw_iconst (pc' := 235) (x := (1 : Int32)) rfl rfl ?_
    refine jw_goto (pc' := 239) rfl rfl ?_
    refine jw_gen (ls' := [none, none, none, none, none, some (vI x5), none]) (st' := [vI (1 : Int32), vI x5, vR 166 (jfr h_8 193 r0)]) (And.intro (Or.inl rfl) (trivial)) (And.intro (Or.inl rfl) (And.intro (Or.inl rfl) (And.intro (Or.inl rfl) (trivial)))) ?_
    exact w_X8_knownWord_239 w
def W_X8_knownWord_182 (D : JD) (d : Nat) (Q : JO → JH → Prop) (r0 : Nat) (x2 : Int32) (r4 : Nat) (s0 : Int32) (h : JH) : Prop :=
  r0 ≠ 0 ∧ (((400 : Int32) ≤ (jfi h 194 r0) → W_X8_knownWord_202 D d Q r0 x2 r4 s0 h) ∧ (¬ (400 : Int32) ≤ (jfi h 194 r0) → ∀ h_3 : JH, h_3 = wfi h 194 r0 (s0 + (1 : Int32)) → (W_X8_knownWord_202 D d Q r0 x2 r4 s0 h_3)))
theorem w_X8_knownWord_182 {D : JD} {d : Nat} {Q : JO → JH → Prop} {r0 : Nat} {x2 : Int32} {r4 : Nat} {s0 : Int32} {h : JH} (w : W_X8_knownWord_182 D d Q r0 x2 r4 s0 h) : JW D (d + 1) mX8_knownWord 182 [some (vR 41 r0), none, some (vI x2), none, some (vR 64 r4), none, none] [vI s0] h Q := by
  unfold W_X8_knownWord_182 at w
  refine jw_istore (pc' := 184) (ls' := [some (vR 41 r0), none, some (vI x2), none, some (vR 64 r4), some (vI s0), none]) rfl (by decide) rfl ?_
  refine jw_aload_n (pc' := 185) rfl rfl ?_
  obtain ⟨g_1, w⟩ := w
  refine jw_getI (pc' := 188) (F := 194) rfl rfl rfl rfl g_1 ?_
  refine jw_sipush (pc' := 191) (x := (400 : Int32)) rfl rfl ?_
  refine jw_icmp_ge (tgt := 202) (pc' := 194) rfl rfl (fun c_2 => ?_) (fun c_2 => ?_)
  · replace w := w.1 c_2
    exact w_X8_knownWord_202 w
  · replace w := w.2 c_2
    refine jw_aload_n (pc' := 195) rfl rfl ?_
    refine jw_iload (pc' := 197) rfl rfl ?_
    refine jw_iconst (pc' := 198) (x := (1 : Int32)) rfl rfl ?_
    refine jw_iadd (pc' := 199) rfl ?_
    refine jw_putI' (pc' := 202) (F := 194) rfl rfl rfl (Or.inr rfl) (Or.inl rfl) rfl (rfl) (rfl) rfl g_1 (fun h_3 e_4 => ?_)
    replace w := w h_3 e_4
    exact w_X8_knownWord_202 w
def W_X8_knownWord_120 (D : JD) (d : Nat) (Q : JO → JH → Prop) (K120 : Nat → Int32 → Int32 → Nat → Int32 → JH → Prop) (r0 : Nat) (x1 : Int32) (x2 : Int32) (r3 : Nat) (x4 : Int32) (h : JH) : Prop :=
  (x2 ≤ x4 → r3 ≠ 0 ∧ (cJ13_append D d r3 (32 : Int32) h (pR D h 11 (fun v_5 h_3 => cJ13_toString D d r3 h_3 (pR D h_3 64 (fun v_8 h_6 => r0 ≠ 0 ∧ (((399 : Int32) ≤ (jfi h_6 194 r0) → W_X8_knownWord_182 D d Q r0 x2 v_8 (399 : Int32) h_6) ∧ (¬ (399 : Int32) ≤ (jfi h_6 194 r0) → W_X8_knownWord_182 D d Q r0 x2 v_8 (jfi h_6 194 r0) h_6))) (jth Q))) (jth Q)))) ∧ (¬ x2 ≤ x4 → r0 ≠ 0 ∧ (cX8_at D d r0 (x1 + x4) h (pI D h (fun v_14 h_12 => cX8_small D d v_14 h_12 (pI D h_12 (fun v_17 h_15 => r3 ≠ 0 ∧ (cJ13_append D d r3 ((Int32.toUInt32 v_17 % 65536).toInt32) h_15 (pR D h_15 11 (fun v_21 h_19 => K120 r0 x1 x2 r3 (x4 + (1 : Int32)) h_19) (jth Q)))) (jth Q))) (jth Q))))
theorem w_X8_knownWord_120 {D : JD} {d : Nat} {Q : JO → JH → Prop} {K120 : Nat → Int32 → Int32 → Nat → Int32 → JH → Prop} {r0 : Nat} {x1 : Int32} {x2 : Int32} {r3 : Nat} {x4 : Int32} {h : JH} (hK120 : ∀ (r0 : Nat) (x1 : Int32) (x2 : Int32) (r3 : Nat) (x4 : Int32) (h : JH), K120 r0 x1 x2 r3 x4 h → JW D (d + 1) mX8_knownWord 120 [some (vR 41 r0), some (vI x1), some (vI x2), some (vR 11 r3), some (vI x4), none, none] [] h Q) (w : W_X8_knownWord_120 D d Q K120 r0 x1 x2 r3 x4 h) : JW D (d + 1) mX8_knownWord 120 [some (vR 41 r0), some (vI x1), some (vI x2), some (vR 11 r3), some (vI x4), none, none] [] h Q := by
  unfold W_X8_knownWord_120 at w
  refine jw_iload (pc' := 122) rfl rfl ?_
  refine jw_iload_n (pc' := 123) rfl rfl ?_
  refine jw_icmp_ge (tgt := 149) (pc' := 126) rfl rfl (fun c_1 => ?_) (fun c_1 => ?_)
  · replace w := w.1 c_1
    refine jw_aload_n (pc' := 150) rfl rfl ?_
    refine jw_bipush (pc' := 152) (x := (32 : Int32)) rfl rfl ?_
    obtain ⟨g_2, w⟩ := w
    refine jw_cR (st := []) (sa := [vR 11 r3, vI (32 : Int32)]) okJ13_append rfl rfl rfl rfl rfl rfl (jstp_virtual (sa := [vI (32 : Int32)]) (st := []) (k := 0) rfl rfl sJ13_append okJ13_append g_2 (one11.k g_2) rfl rfl) w (fun v_5 h_3 _ _ _ w => ?_)
    refine jw_pop (pc' := 156) rfl rfl ?_
    refine jw_aload_n (pc' := 157) rfl rfl ?_
    refine jw_cR (st := []) (sa := [vR 11 r3]) okJ13_toString rfl rfl rfl rfl rfl rfl (jstp_virtual (sa := []) (st := []) (k := 0) rfl rfl sJ13_toString okJ13_toString g_2 (one11.k g_2) rfl rfl) w (fun v_8 h_6 _ _ _ w => ?_)
    refine jw_astore (pc' := 162) (ls' := [some (vR 41 r0), some (vI x1), some (vI x2), some (vR 11 r3), some (vR 64 v_8), none, none]) rfl (by decide) rfl ?_
    refine jw_aload_n (pc' := 163) rfl rfl ?_
    obtain ⟨g_9, w⟩ := w
    refine jw_getI (pc' := 166) (F := 194) rfl rfl rfl rfl g_9 ?_
    refine jw_sipush (pc' := 169) (x := (399 : Int32)) rfl rfl ?_
    refine jw_icmp_ge (tgt := 179) (pc' := 172) rfl rfl (fun c_10 => ?_) (fun c_10 => ?_)
    · replace w := w.1 c_10
      refine jw_sipush (pc' := 182) (x := (399 : Int32)) rfl rfl ?_
      refine jw_gen (ls' := [some (vR 41 r0), none, some (vI x2), none, some (vR 64 v_8), none, none]) (st' := [vI (399 : Int32)]) (And.intro (Or.inl rfl) (And.intro (Or.inl rfl) (And.intro (Or.inl rfl) (trivial)))) (And.intro (Or.inl rfl) (trivial)) ?_
      exact w_X8_knownWord_182 w
    · replace w := w.2 c_10
      refine jw_aload_n (pc' := 173) rfl rfl ?_
      refine jw_getI (pc' := 176) (F := 194) rfl rfl rfl rfl g_9 ?_
      refine jw_goto (pc' := 182) rfl rfl ?_
      refine jw_gen (ls' := [some (vR 41 r0), none, some (vI x2), none, some (vR 64 v_8), none, none]) (st' := [vI (jfi h_6 194 r0)]) (And.intro (Or.inl rfl) (And.intro (Or.inl rfl) (And.intro (Or.inl rfl) (trivial)))) (And.intro (Or.inl rfl) (trivial)) ?_
      exact w_X8_knownWord_182 w
  · replace w := w.2 c_1
    refine jw_aload_n (pc' := 127) rfl rfl ?_
    refine jw_aload_n (pc' := 128) rfl rfl ?_
    refine jw_iload_n (pc' := 129) rfl rfl ?_
    refine jw_iload (pc' := 131) rfl rfl ?_
    refine jw_iadd (pc' := 132) rfl ?_
    obtain ⟨g_11, w⟩ := w
    refine jw_cI (st := [vR 11 r3]) (sa := [vR 41 r0, vI (x1 + x4)]) okX8_at rfl rfl rfl rfl rfl rfl (jstp_virtual (sa := [vI (x1 + x4)]) (st := [vR 11 r3]) (k := 0) rfl rfl sX8_at okX8_at g_11 (one41.k g_11) rfl rfl) w (fun v_14 h_12 _ _ w => ?_)
    refine jw_cI (st := [vR 11 r3]) (sa := [vI v_14]) okX8_small rfl rfl rfl rfl rfl rfl (jstp_static (sa := [vI v_14]) (st := [vR 11 r3]) rfl rfl sX8_small okX8_small rfl rfl) w (fun v_17 h_15 _ _ w => ?_)
    refine jw_i2c (pc' := 139) rfl ?_
    obtain ⟨g_18, w⟩ := w
    refine jw_cR (st := []) (sa := [vR 11 r3, vI ((Int32.toUInt32 v_17 % 65536).toInt32)]) okJ13_append rfl rfl rfl rfl rfl rfl (jstp_virtual (sa := [vI ((Int32.toUInt32 v_17 % 65536).toInt32)]) (st := []) (k := 0) rfl rfl sJ13_append okJ13_append g_18 (one11.k g_18) rfl rfl) w (fun v_21 h_19 _ _ _ w => ?_)
    refine jw_pop (pc' := 143) rfl rfl ?_
    refine jw_iinc (pc' := 146) (y := x4 + (1 : Int32)) (ls' := [some (vR 41 r0), some (vI x1), some (vI x2), some (vR 11 r3), some (vI (x4 + (1 : Int32))), none, none]) rfl (by decide) rfl rfl rfl ?_
    refine jw_goto (pc' := 120) rfl rfl ?_
    exact hK120 _ _ _ _ _ _ w
def L_X8_knownWord_120 (D : JD) (d : Nat) (Q : JO → JH → Prop) : Nat → Nat → Int32 → Int32 → Nat → Int32 → JH → Prop
  | 0 => fun _ _ _ _ _ _ => False
  | n + 1 => fun r0 x1 x2 r3 x4 h => W_X8_knownWord_120 D d Q (L_X8_knownWord_120 D d Q n) r0 x1 x2 r3 x4 h
theorem l_X8_knownWord_120 {D : JD} {d : Nat} {Q : JO → JH → Prop} : ∀ (n : Nat) (r0 : Nat) (x1 : Int32) (x2 : Int32) (r3 : Nat) (x4 : Int32) (h : JH), L_X8_knownWord_120 D d Q n r0 x1 x2 r3 x4 h → JW D (d + 1) mX8_knownWord 120 [some (vR 41 r0), some (vI x1), some (vI x2), some (vR 11 r3), some (vI x4), none, none] [] h Q := by
  intro n
  induction n with
  | zero => intro _ _ _ _ _ _ w; exact w.elim
  | succ n ih => intro _ _ _ _ _ h w; exact w_X8_knownWord_120 ih w
def W_X8_knownWord_89 (D : JD) (d : Nat) (Q : JO → JH → Prop) (K9 : Nat → Int32 → Int32 → Int32 → JH → Prop) (r0 : Nat) (x1 : Int32) (x2 : Int32) (x3 : Int32) (x5 : Int32) (h : JH) : Prop :=
  (x5 = 0 → K9 r0 x1 x2 (x3 + (1 : Int32)) h) ∧ (¬ x5 = 0 → Q (.inl (some (vI x3))) h)
theorem w_X8_knownWord_89 {D : JD} {d : Nat} {Q : JO → JH → Prop} {K9 : Nat → Int32 → Int32 → Int32 → JH → Prop} {r0 : Nat} {x1 : Int32} {x2 : Int32} {x3 : Int32} {x5 : Int32} {h : JH} (hK9 : ∀ (r0 : Nat) (x1 : Int32) (x2 : Int32) (x3 : Int32) (h : JH), K9 r0 x1 x2 x3 h → JW D (d + 1) mX8_knownWord 9 [some (vR 41 r0), some (vI x1), some (vI x2), some (vI x3), none, none, none] [] h Q) (w : W_X8_knownWord_89 D d Q K9 r0 x1 x2 x3 x5 h) : JW D (d + 1) mX8_knownWord 89 [some (vR 41 r0), some (vI x1), some (vI x2), some (vI x3), none, some (vI x5), none] [] h Q := by
  unfold W_X8_knownWord_89 at w
  refine jw_iload (pc' := 91) rfl rfl ?_
  refine jw_if_eq (tgt := 96) (pc' := 94) rfl rfl (fun c_1 => ?_) (fun c_1 => ?_)
  · replace w := w.1 c_1
    refine jw_iinc (pc' := 99) (y := x3 + (1 : Int32)) (ls' := [some (vR 41 r0), some (vI x1), some (vI x2), some (vI (x3 + (1 : Int32))), none, some (vI x5), none]) rfl (by decide) rfl rfl rfl ?_
    refine jw_goto (pc' := 9) rfl rfl ?_
    refine jw_gen (ls' := [some (vR 41 r0), some (vI x1), some (vI x2), some (vI (x3 + (1 : Int32))), none, none, none]) (st' := []) (And.intro (Or.inl rfl) (And.intro (Or.inl rfl) (And.intro (Or.inl rfl) (And.intro (Or.inl rfl) (trivial))))) (trivial) ?_
    exact hK9 _ _ _ _ _ w
  · replace w := w.2 c_1
    refine jw_iload_n (pc' := 95) rfl rfl ?_
    exact jw_ireturn rfl rfl (rfl) w
def W_X8_knownWord_81 (D : JD) (d : Nat) (Q : JO → JH → Prop) (K9 : Nat → Int32 → Int32 → Int32 → JH → Prop) (K44 : Nat → Int32 → Int32 → Int32 → Nat → Int32 → Int32 → JH → Prop) (r0 : Nat) (x1 : Int32) (x2 : Int32) (x3 : Int32) (r4 : Nat) (x6 : Int32) (s0 : Int32) (h : JH) : Prop :=
  K44 r0 x1 x2 x3 r4 s0 (x6 + (1 : Int32)) h
theorem w_X8_knownWord_81 {D : JD} {d : Nat} {Q : JO → JH → Prop} {K9 : Nat → Int32 → Int32 → Int32 → JH → Prop} {K44 : Nat → Int32 → Int32 → Int32 → Nat → Int32 → Int32 → JH → Prop} {r0 : Nat} {x1 : Int32} {x2 : Int32} {x3 : Int32} {r4 : Nat} {x6 : Int32} {s0 : Int32} {h : JH} (hK9 : ∀ (r0 : Nat) (x1 : Int32) (x2 : Int32) (x3 : Int32) (h : JH), K9 r0 x1 x2 x3 h → JW D (d + 1) mX8_knownWord 9 [some (vR 41 r0), some (vI x1), some (vI x2), some (vI x3), none, none, none] [] h Q) (hK44 : ∀ (r0 : Nat) (x1 : Int32) (x2 : Int32) (x3 : Int32) (r4 : Nat) (x5 : Int32) (x6 : Int32) (h : JH), K44 r0 x1 x2 x3 r4 x5 x6 h → JW D (d + 1) mX8_knownWord 44 [some (vR 41 r0), some (vI x1), some (vI x2), some (vI x3), some (vR 64 r4), some (vI x5), some (vI x6)] [] h Q) (w : W_X8_knownWord_81 D d Q K9 K44 r0 x1 x2 x3 r4 x6 s0 h) : JW D (d + 1) mX8_knownWord 81 [some (vR 41 r0), some (vI x1), some (vI x2), some (vI x3), some (vR 64 r4), none, some (vI x6)] [vI s0] h Q := by
  unfold W_X8_knownWord_81 at w
  refine jw_istore (pc' := 83) (ls' := [some (vR 41 r0), some (vI x1), some (vI x2), some (vI x3), some (vR 64 r4), some (vI s0), some (vI x6)]) rfl (by decide) rfl ?_
  refine jw_iinc (pc' := 86) (y := x6 + (1 : Int32)) (ls' := [some (vR 41 r0), some (vI x1), some (vI x2), some (vI x3), some (vR 64 r4), some (vI s0), some (vI (x6 + (1 : Int32)))]) rfl (by decide) rfl rfl rfl ?_
  refine jw_goto (pc' := 44) rfl rfl ?_
  exact hK44 _ _ _ _ _ _ _ _ w
def W_X8_knownWord_44 (D : JD) (d : Nat) (Q : JO → JH → Prop) (K9 : Nat → Int32 → Int32 → Int32 → JH → Prop) (K44 : Nat → Int32 → Int32 → Int32 → Nat → Int32 → Int32 → JH → Prop) (r0 : Nat) (x1 : Int32) (x2 : Int32) (x3 : Int32) (r4 : Nat) (x5 : Int32) (x6 : Int32) (h : JH) : Prop :=
  (x2 ≤ x6 → W_X8_knownWord_89 D d Q K9 r0 x1 x2 x3 x5 h) ∧ (¬ x2 ≤ x6 → (x5 = 0 → W_X8_knownWord_89 D d Q K9 r0 x1 x2 x3 x5 h) ∧ (¬ x5 = 0 → r4 ≠ 0 ∧ (cJ5_charAt D d r4 x6 h (pI D h (fun v_6 h_4 => r0 ≠ 0 ∧ (cX8_at D d r0 (x1 + x6) h_4 (pI D h_4 (fun v_10 h_8 => cX8_small D d v_10 h_8 (pI D h_8 (fun v_13 h_11 => (¬ v_6 = v_13 → W_X8_knownWord_81 D d Q K9 K44 r0 x1 x2 x3 r4 x6 (0 : Int32) h_11) ∧ (v_6 = v_13 → W_X8_knownWord_81 D d Q K9 K44 r0 x1 x2 x3 r4 x6 (1 : Int32) h_11)) (jth Q))) (jth Q)))) (jth Q)))))
theorem w_X8_knownWord_44 {D : JD} {d : Nat} {Q : JO → JH → Prop} {K9 : Nat → Int32 → Int32 → Int32 → JH → Prop} {K44 : Nat → Int32 → Int32 → Int32 → Nat → Int32 → Int32 → JH → Prop} {r0 : Nat} {x1 : Int32} {x2 : Int32} {x3 : Int32} {r4 : Nat} {x5 : Int32} {x6 : Int32} {h : JH} (hK9 : ∀ (r0 : Nat) (x1 : Int32) (x2 : Int32) (x3 : Int32) (h : JH), K9 r0 x1 x2 x3 h → JW D (d + 1) mX8_knownWord 9 [some (vR 41 r0), some (vI x1), some (vI x2), some (vI x3), none, none, none] [] h Q) (hK44 : ∀ (r0 : Nat) (x1 : Int32) (x2 : Int32) (x3 : Int32) (r4 : Nat) (x5 : Int32) (x6 : Int32) (h : JH), K44 r0 x1 x2 x3 r4 x5 x6 h → JW D (d + 1) mX8_knownWord 44 [some (vR 41 r0), some (vI x1), some (vI x2), some (vI x3), some (vR 64 r4), some (vI x5), some (vI x6)] [] h Q) (w : W_X8_knownWord_44 D d Q K9 K44 r0 x1 x2 x3 r4 x5 x6 h) : JW D (d + 1) mX8_knownWord 44 [some (vR 41 r0), some (vI x1), some (vI x2), some (vI x3), some (vR 64 r4), some (vI x5), some (vI x6)] [] h Q := by
  unfold W_X8_knownWord_44 at w
  refine jw_iload (pc' := 46) rfl rfl ?_
  refine jw_iload_n (pc' := 47) rfl rfl ?_
  refine jw_icmp_ge (tgt := 89) (pc' := 50) rfl rfl (fun c_1 => ?_) (fun c_1 => ?_)
  · replace w := w.1 c_1
    refine jw_gen (ls' := [some (vR 41 r0), some (vI x1), some (vI x2), some (vI x3), none, some (vI x5), none]) (st' := []) (And.intro (Or.inl rfl) (And.intro (Or.inl rfl) (And.intro (Or.inl rfl) (And.intro (Or.inl rfl) (And.intro (Or.inl rfl) (trivial)))))) (trivial) ?_
    exact w_X8_knownWord_89 hK9 w
  · replace w := w.2 c_1
    refine jw_iload (pc' := 52) rfl rfl ?_
    refine jw_if_eq (tgt := 89) (pc' := 55) rfl rfl (fun c_2 => ?_) (fun c_2 => ?_)
    · replace w := w.1 c_2
      refine jw_gen (ls' := [some (vR 41 r0), some (vI x1), some (vI x2), some (vI x3), none, some (vI x5), none]) (st' := []) (And.intro (Or.inl rfl) (And.intro (Or.inl rfl) (And.intro (Or.inl rfl) (And.intro (Or.inl rfl) (And.intro (Or.inl rfl) (trivial)))))) (trivial) ?_
      exact w_X8_knownWord_89 hK9 w
    · replace w := w.2 c_2
      refine jw_aload (pc' := 57) rfl rfl ?_
      refine jw_iload (pc' := 59) rfl rfl ?_
      obtain ⟨g_3, w⟩ := w
      refine jw_cI (st := []) (sa := [vR 64 r4, vI x6]) okJ5_charAt rfl rfl rfl rfl rfl rfl (jstp_virtual (sa := [vI x6]) (st := []) (k := 0) rfl rfl sJ5_charAt okJ5_charAt g_3 (one64.k g_3) rfl rfl) w (fun v_6 h_4 _ _ w => ?_)
      refine jw_aload_n (pc' := 63) rfl rfl ?_
      refine jw_iload_n (pc' := 64) rfl rfl ?_
      refine jw_iload (pc' := 66) rfl rfl ?_
      refine jw_iadd (pc' := 67) rfl ?_
      obtain ⟨g_7, w⟩ := w
      refine jw_cI (st := [vI v_6]) (sa := [vR 41 r0, vI (x1 + x6)]) okX8_at rfl rfl rfl rfl rfl rfl (jstp_virtual (sa := [vI (x1 + x6)]) (st := [vI v_6]) (k := 0) rfl rfl sX8_at okX8_at g_7 (one41.k g_7) rfl rfl) w (fun v_10 h_8 _ _ w => ?_)
      refine jw_cI (st := [vI v_6]) (sa := [vI v_10]) okX8_small rfl rfl rfl rfl rfl rfl (jstp_static (sa := [vI v_10]) (st := [vI v_6]) rfl rfl sX8_small okX8_small rfl rfl) w (fun v_13 h_11 _ _ w => ?_)
      refine jw_icmp_ne (tgt := 80) (pc' := 76) rfl rfl (fun c_14 => ?_) (fun c_14 => ?_)
      · replace w := w.1 c_14
        refine jw_iconst (pc' := 81) (x := (0 : Int32)) rfl rfl ?_
        refine jw_gen (ls' := [some (vR 41 r0), some (vI x1), some (vI x2), some (vI x3), some (vR 64 r4), none, some (vI x6)]) (st' := [vI (0 : Int32)]) (And.intro (Or.inl rfl) (And.intro (Or.inl rfl) (And.intro (Or.inl rfl) (And.intro (Or.inl rfl) (And.intro (Or.inl rfl) (And.intro (Or.inl rfl) (trivial))))))) (And.intro (Or.inl rfl) (trivial)) ?_
        exact w_X8_knownWord_81 hK9 hK44 w
      · replace w := w.2 c_14
        refine jw_iconst (pc' := 77) (x := (1 : Int32)) rfl rfl ?_
        refine jw_goto (pc' := 81) rfl rfl ?_
        refine jw_gen (ls' := [some (vR 41 r0), some (vI x1), some (vI x2), some (vI x3), some (vR 64 r4), none, some (vI x6)]) (st' := [vI (1 : Int32)]) (And.intro (Or.inl rfl) (And.intro (Or.inl rfl) (And.intro (Or.inl rfl) (And.intro (Or.inl rfl) (And.intro (Or.inl rfl) (And.intro (Or.inl rfl) (trivial))))))) (And.intro (Or.inl rfl) (trivial)) ?_
        exact w_X8_knownWord_81 hK9 hK44 w
def L_X8_knownWord_44 (D : JD) (d : Nat) (Q : JO → JH → Prop) (K9 : Nat → Int32 → Int32 → Int32 → JH → Prop) : Nat → Nat → Int32 → Int32 → Int32 → Nat → Int32 → Int32 → JH → Prop
  | 0 => fun _ _ _ _ _ _ _ _ => False
  | n + 1 => fun r0 x1 x2 x3 r4 x5 x6 h => W_X8_knownWord_44 D d Q K9 (L_X8_knownWord_44 D d Q K9 n) r0 x1 x2 x3 r4 x5 x6 h
theorem l_X8_knownWord_44 {D : JD} {d : Nat} {Q : JO → JH → Prop} {K9 : Nat → Int32 → Int32 → Int32 → JH → Prop} (hK9 : ∀ (r0 : Nat) (x1 : Int32) (x2 : Int32) (x3 : Int32) (h : JH), K9 r0 x1 x2 x3 h → JW D (d + 1) mX8_knownWord 9 [some (vR 41 r0), some (vI x1), some (vI x2), some (vI x3), none, none, none] [] h Q) : ∀ (n : Nat) (r0 : Nat) (x1 : Int32) (x2 : Int32) (x3 : Int32) (r4 : Nat) (x5 : Int32) (x6 : Int32) (h : JH), L_X8_knownWord_44 D d Q K9 n r0 x1 x2 x3 r4 x5 x6 h → JW D (d + 1) mX8_knownWord 44 [some (vR 41 r0), some (vI x1), some (vI x2), some (vI x3), some (vR 64 r4), some (vI x5), some (vI x6)] [] h Q := by
  intro n
  induction n with
  | zero => intro _ _ _ _ _ _ _ _ w; exact w.elim
  | succ n ih => intro _ _ _ _ _ _ _ h w; exact w_X8_knownWord_44 hK9 ih w
def W_X8_knownWord_39 (D : JD) (d : Nat) (Q : JO → JH → Prop) (K9 : Nat → Int32 → Int32 → Int32 → JH → Prop) (r0 : Nat) (x1 : Int32) (x2 : Int32) (x3 : Int32) (r4 : Nat) (s0 : Int32) (h : JH) : Prop :=
  ∃ n, L_X8_knownWord_44 D d Q K9 n r0 x1 x2 x3 r4 s0 (0 : Int32) h
theorem w_X8_knownWord_39 {D : JD} {d : Nat} {Q : JO → JH → Prop} {K9 : Nat → Int32 → Int32 → Int32 → JH → Prop} {r0 : Nat} {x1 : Int32} {x2 : Int32} {x3 : Int32} {r4 : Nat} {s0 : Int32} {h : JH} (hK9 : ∀ (r0 : Nat) (x1 : Int32) (x2 : Int32) (x3 : Int32) (h : JH), K9 r0 x1 x2 x3 h → JW D (d + 1) mX8_knownWord 9 [some (vR 41 r0), some (vI x1), some (vI x2), some (vI x3), none, none, none] [] h Q) (w : W_X8_knownWord_39 D d Q K9 r0 x1 x2 x3 r4 s0 h) : JW D (d + 1) mX8_knownWord 39 [some (vR 41 r0), some (vI x1), some (vI x2), some (vI x3), some (vR 64 r4), none, none] [vI s0] h Q := by
  unfold W_X8_knownWord_39 at w
  refine jw_istore (pc' := 41) (ls' := [some (vR 41 r0), some (vI x1), some (vI x2), some (vI x3), some (vR 64 r4), some (vI s0), none]) rfl (by decide) rfl ?_
  refine jw_iconst (pc' := 42) (x := (0 : Int32)) rfl rfl ?_
  refine jw_istore (pc' := 44) (ls' := [some (vR 41 r0), some (vI x1), some (vI x2), some (vI x3), some (vR 64 r4), some (vI s0), some (vI (0 : Int32))]) rfl (by decide) rfl ?_
  obtain ⟨n, w⟩ := w
  exact l_X8_knownWord_44 hK9 n _ _ _ _ _ _ _ _ w
def W_X8_knownWord_9 (D : JD) (d : Nat) (Q : JO → JH → Prop) (K9 : Nat → Int32 → Int32 → Int32 → JH → Prop) (r0 : Nat) (x1 : Int32) (x2 : Int32) (x3 : Int32) (h : JH) : Prop :=
  r0 ≠ 0 ∧ (((jfi h 194 r0) ≤ x3 → ∀ (r_3 : Nat) (h_4 : JH), r_3 = jsz h + 1 → h_4 = nwo h 11 4 → (cJ13_init D d r_3 h_4 (pV D h_4 (fun h_7 => cJ13_append D d r_3 (32 : Int32) h_7 (pR D h_7 11 (fun v_12 h_10 => ∃ n, L_X8_knownWord_120 D d Q n r0 x1 x2 r_3 (0 : Int32) h_10) (jth Q))) (jth Q)))) ∧ (¬ (jfi h 194 r0) ≤ x3 → (jfr h 192 r0) ≠ 0 ∧ jin x3 (jln h (jfr h 192 r0)) ∧ ((jar h (jfr h 192 r0) (ixn x3)) ≠ 0 ∧ (cJ5_length D d (jar h (jfr h 192 r0) (ixn x3)) h (pI D h (fun v_18 h_16 => (¬ v_18 = x2 → W_X8_knownWord_39 D d Q K9 r0 x1 x2 x3 (jar h (jfr h 192 r0) (ixn x3)) (0 : Int32) h_16) ∧ (v_18 = x2 → W_X8_knownWord_39 D d Q K9 r0 x1 x2 x3 (jar h (jfr h 192 r0) (ixn x3)) (1 : Int32) h_16)) (jth Q))))))
theorem w_X8_knownWord_9 {D : JD} {d : Nat} {Q : JO → JH → Prop} {K9 : Nat → Int32 → Int32 → Int32 → JH → Prop} {r0 : Nat} {x1 : Int32} {x2 : Int32} {x3 : Int32} {h : JH} (hK9 : ∀ (r0 : Nat) (x1 : Int32) (x2 : Int32) (x3 : Int32) (h : JH), K9 r0 x1 x2 x3 h → JW D (d + 1) mX8_knownWord 9 [some (vR 41 r0), some (vI x1), some (vI x2), some (vI x3), none, none, none] [] h Q) (w : W_X8_knownWord_9 D d Q K9 r0 x1 x2 x3 h) : JW D (d + 1) mX8_knownWord 9 [some (vR 41 r0), some (vI x1), some (vI x2), some (vI x3), none, none, none] [] h Q := by
  unfold W_X8_knownWord_9 at w
  refine jw_iload_n (pc' := 10) rfl rfl ?_
  refine jw_aload_n (pc' := 11) rfl rfl ?_
  obtain ⟨g_1, w⟩ := w
  refine jw_getI (pc' := 14) (F := 194) rfl rfl rfl rfl g_1 ?_
  refine jw_icmp_ge (tgt := 102) (pc' := 17) rfl rfl (fun c_2 => ?_) (fun c_2 => ?_)
  · replace w := w.1 c_2
    refine jw_new' (pc' := 105) (k := 11) (n := 4) rfl rfl rfl rfl rfl rfl rfl (fun r_3 h_4 e_5 e_6 => ?_)
    replace w := w r_3 h_4 e_5 e_6
    refine jw_dup (pc' := 106) rfl rfl ?_
    refine jw_cV (st := [vR 11 r_3]) (sa := [vR 11 r_3]) okJ13_init rfl rfl rfl rfl rfl rfl (jstp_init (sa := []) (st := [vR 11 r_3]) rfl rfl sJ13_init okJ13_init (lw_g (jtb_mem (c := 3) (i := 134) rfl) rfl) (jnz e_5) rfl rfl) w (fun h_7 _ _ w => ?_)
    refine jw_astore_n (pc' := 110) (ls' := [some (vR 41 r0), some (vI x1), some (vI x2), some (vR 11 r_3), none, none, none]) rfl (by decide) rfl ?_
    refine jw_aload_n (pc' := 111) rfl rfl ?_
    refine jw_bipush (pc' := 113) (x := (32 : Int32)) rfl rfl ?_
    refine jw_cR (st := []) (sa := [vR 11 r_3, vI (32 : Int32)]) okJ13_append rfl rfl rfl rfl rfl rfl (jstp_virtual (sa := [vI (32 : Int32)]) (st := []) (k := 0) rfl rfl sJ13_append okJ13_append (jnz e_5) (one11.k (jnz e_5)) rfl rfl) w (fun v_12 h_10 _ _ _ w => ?_)
    refine jw_pop (pc' := 117) rfl rfl ?_
    refine jw_iconst (pc' := 118) (x := (0 : Int32)) rfl rfl ?_
    refine jw_istore (pc' := 120) (ls' := [some (vR 41 r0), some (vI x1), some (vI x2), some (vR 11 r_3), some (vI (0 : Int32)), none, none]) rfl (by decide) rfl ?_
    obtain ⟨n, w⟩ := w
    exact l_X8_knownWord_120 n _ _ _ _ _ _ w
  · replace w := w.2 c_2
    refine jw_aload_n (pc' := 18) rfl rfl ?_
    refine jw_getR (pc' := 21) (F := 192) (t' := 165) rfl rfl rfl rfl rfl g_1 ?_
    refine jw_iload_n (pc' := 22) rfl rfl ?_
    obtain ⟨g_13, w⟩ := w
    obtain ⟨g_14, w⟩ := w
    refine jw_aald (pc' := 23) (t' := 64) rfl rfl rfl rfl g_13 g_14.ix g_14.2 ?_
    refine jw_astore (pc' := 25) (ls' := [some (vR 41 r0), some (vI x1), some (vI x2), some (vI x3), some (vR 64 (jar h (jfr h 192 r0) (ixn x3))), none, none]) rfl (by decide) rfl ?_
    refine jw_aload (pc' := 27) rfl rfl ?_
    obtain ⟨g_15, w⟩ := w
    refine jw_cI (st := []) (sa := [vR 64 (jar h (jfr h 192 r0) (ixn x3))]) okJ5_length rfl rfl rfl rfl rfl rfl (jstp_virtual (sa := []) (st := []) (k := 0) rfl rfl sJ5_length okJ5_length g_15 (one64.k g_15) rfl rfl) w (fun v_18 h_16 _ _ w => ?_)
    refine jw_iload_n (pc' := 31) rfl rfl ?_
    refine jw_icmp_ne (tgt := 38) (pc' := 34) rfl rfl (fun c_19 => ?_) (fun c_19 => ?_)
    · replace w := w.1 c_19
      refine jw_iconst (pc' := 39) (x := (0 : Int32)) rfl rfl ?_
      exact w_X8_knownWord_39 hK9 w
    · replace w := w.2 c_19
      refine jw_iconst (pc' := 35) (x := (1 : Int32)) rfl rfl ?_
      refine jw_goto (pc' := 39) rfl rfl ?_
      exact w_X8_knownWord_39 hK9 w
def L_X8_knownWord_9 (D : JD) (d : Nat) (Q : JO → JH → Prop) : Nat → Nat → Int32 → Int32 → Int32 → JH → Prop
  | 0 => fun _ _ _ _ _ => False
  | n + 1 => fun r0 x1 x2 x3 h => W_X8_knownWord_9 D d Q (L_X8_knownWord_9 D d Q n) r0 x1 x2 x3 h
theorem l_X8_knownWord_9 {D : JD} {d : Nat} {Q : JO → JH → Prop} : ∀ (n : Nat) (r0 : Nat) (x1 : Int32) (x2 : Int32) (x3 : Int32) (h : JH), L_X8_knownWord_9 D d Q n r0 x1 x2 x3 h → JW D (d + 1) mX8_knownWord 9 [some (vR 41 r0), some (vI x1), some (vI x2), some (vI x3), none, none, none] [] h Q := by
  intro n
  induction n with
  | zero => intro _ _ _ _ _ w; exact w.elim
  | succ n ih => intro _ _ _ _ h w; exact w_X8_knownWord_9 ih w
def W_X8_knownWord_0 (D : JD) (d : Nat) (Q : JO → JH → Prop) (r0 : Nat) (x1 : Int32) (h : JH) : Prop :=
  r0 ≠ 0 ∧ (∃ n, L_X8_knownWord_9 D d Q n r0 x1 ((jfi h 185 r0) - x1) (0 : Int32) h)
theorem w_X8_knownWord_0 {D : JD} {d : Nat} {Q : JO → JH → Prop} {r0 : Nat} {x1 : Int32} {h : JH} (w : W_X8_knownWord_0 D d Q r0 x1 h) : JW D (d + 1) mX8_knownWord 0 [some (vR 41 r0), some (vI x1), none, none, none, none, none] [] h Q := by
  unfold W_X8_knownWord_0 at w
  refine jw_aload_n (pc' := 1) rfl rfl ?_
  obtain ⟨g_1, w⟩ := w
  refine jw_getI (pc' := 4) (F := 185) rfl rfl rfl rfl g_1 ?_
  refine jw_iload_n (pc' := 5) rfl rfl ?_
  refine jw_isub (pc' := 6) rfl ?_
  refine jw_istore_n (pc' := 7) (ls' := [some (vR 41 r0), some (vI x1), some (vI ((jfi h 185 r0) - x1)), none, none, none, none]) rfl (by decide) rfl ?_
  refine jw_iconst (pc' := 8) (x := (0 : Int32)) rfl rfl ?_
  refine jw_istore_n (pc' := 9) (ls' := [some (vR 41 r0), some (vI x1), some (vI ((jfi h 185 r0) - x1)), some (vI (0 : Int32)), none, none, none]) rfl (by decide) rfl ?_
  obtain ⟨n, w⟩ := w
  exact l_X8_knownWord_9 n _ _ _ _ _ w
def T_X8_knownWord (D : JD) (d : Nat) (Q : JO → JH → Prop) (r0 : Nat) (x1 : Int32) (h : JH) : Prop := W_X8_knownWord_0 D d Q r0 x1 h
theorem t_X8_knownWord {D : JD} {d : Nat} {Q : JO → JH → Prop} {r0 : Nat} {x1 : Int32} {h : JH} (w : T_X8_knownWord D d Q r0 x1 h) : cX8_knownWord D (d + 1) r0 x1 h Q := by
  unfold T_X8_knownWord at w
  unfold cX8_knownWord
  exact w_X8_knownWord_0 w
def W_X8_small_20 (D : JD) (d : Nat) (Q : JO → JH → Prop) (s0 : Int32) (h : JH) : Prop :=
  Q (.inl (some (vI s0))) h
theorem w_X8_small_20 {D : JD} {d : Nat} {Q : JO → JH → Prop} {s0 : Int32} {h : JH} (w : W_X8_small_20 D d Q s0 h) : JW D (d + 1) mX8_small 20 [none] [vI s0] h Q := by
  unfold W_X8_small_20 at w
  exact jw_ireturn rfl rfl (rfl) w
def W_X8_small_19 (D : JD) (d : Nat) (Q : JO → JH → Prop) (x0 : Int32) (h : JH) : Prop :=
  W_X8_small_20 D d Q x0 h
theorem w_X8_small_19 {D : JD} {d : Nat} {Q : JO → JH → Prop} {x0 : Int32} {h : JH} (w : W_X8_small_19 D d Q x0 h) : JW D (d + 1) mX8_small 19 [some (vI x0)] [] h Q := by
  unfold W_X8_small_19 at w
  refine jw_iload_n (pc' := 20) rfl rfl ?_
  refine jw_gen (ls' := [none]) (st' := [vI x0]) (trivial) (And.intro (Or.inl rfl) (trivial)) ?_
  exact w_X8_small_20 w
def W_X8_small_0 (D : JD) (d : Nat) (Q : JO → JH → Prop) (x0 : Int32) (h : JH) : Prop :=
  (x0 < (65 : Int32) → W_X8_small_19 D d Q x0 h) ∧ (¬ x0 < (65 : Int32) → ((90 : Int32) < x0 → W_X8_small_19 D d Q x0 h) ∧ (¬ (90 : Int32) < x0 → W_X8_small_20 D d Q (x0 + (32 : Int32)) h))
theorem w_X8_small_0 {D : JD} {d : Nat} {Q : JO → JH → Prop} {x0 : Int32} {h : JH} (w : W_X8_small_0 D d Q x0 h) : JW D (d + 1) mX8_small 0 [some (vI x0)] [] h Q := by
  unfold W_X8_small_0 at w
  refine jw_iload_n (pc' := 1) rfl rfl ?_
  refine jw_bipush (pc' := 3) (x := (65 : Int32)) rfl rfl ?_
  refine jw_icmp_lt (tgt := 19) (pc' := 6) rfl rfl (fun c_1 => ?_) (fun c_1 => ?_)
  · replace w := w.1 c_1
    exact w_X8_small_19 w
  · replace w := w.2 c_1
    refine jw_iload_n (pc' := 7) rfl rfl ?_
    refine jw_bipush (pc' := 9) (x := (90 : Int32)) rfl rfl ?_
    refine jw_icmp_gt (tgt := 19) (pc' := 12) rfl rfl (fun c_2 => ?_) (fun c_2 => ?_)
    · replace w := w.1 c_2
      exact w_X8_small_19 w
    · replace w := w.2 c_2
      refine jw_iload_n (pc' := 13) rfl rfl ?_
      refine jw_bipush (pc' := 15) (x := (32 : Int32)) rfl rfl ?_
      refine jw_iadd (pc' := 16) rfl ?_
      refine jw_goto (pc' := 20) rfl rfl ?_
      refine jw_gen (ls' := [none]) (st' := [vI (x0 + (32 : Int32))]) (trivial) (And.intro (Or.inl rfl) (trivial)) ?_
      exact w_X8_small_20 w
def T_X8_small (D : JD) (d : Nat) (Q : JO → JH → Prop) (x0 : Int32) (h : JH) : Prop := W_X8_small_0 D d Q x0 h
theorem t_X8_small {D : JD} {d : Nat} {Q : JO → JH → Prop} {x0 : Int32} {h : JH} (w : T_X8_small D d Q x0 h) : cX8_small D (d + 1) x0 h Q := by
  unfold T_X8_small at w
  unfold cX8_small
  exact w_X8_small_0 w
def W_X8_quoted_56 (D : JD) (d : Nat) (Q : JO → JH → Prop) (r0 : Nat) (h : JH) : Prop :=
  r0 ≠ 0 ∧ ∀ h_2 : JH, h_2 = wfi h 183 r0 (7 : Int32) → (Q (.inl none) h_2)
theorem w_X8_quoted_56 {D : JD} {d : Nat} {Q : JO → JH → Prop} {r0 : Nat} {h : JH} (w : W_X8_quoted_56 D d Q r0 h) : JW D (d + 1) mX8_quoted 56 [some (vR 41 r0), none] [] h Q := by
  unfold W_X8_quoted_56 at w
  refine jw_aload_n (pc' := 57) rfl rfl ?_
  refine jw_bipush (pc' := 59) (x := (7 : Int32)) rfl rfl ?_
  obtain ⟨g_1, w⟩ := w
  refine jw_putI' (pc' := 62) (F := 183) rfl rfl rfl (Or.inr rfl) (Or.inl rfl) rfl (rfl) (rfl) rfl g_1 (fun h_2 e_3 => ?_)
  replace w := w h_2 e_3
  exact jw_return rfl rfl w
def W_X8_quoted_103 (D : JD) (d : Nat) (Q : JO → JH → Prop) (K35 : Nat → JH → Prop) (r0 : Nat) (x1 : Int32) (h : JH) : Prop :=
  r0 ≠ 0 ∧ ((jfr h 188 r0) ≠ 0 ∧ ((¬ (jfi h 268 (jfr h 188 r0)) = (40 : Int32) → cX13_put D d (jfr h 188 r0) x1 h (pV D h (fun h_4 => K35 r0 h_4) (jth Q))) ∧ ((jfi h 268 (jfr h 188 r0)) = (40 : Int32) → ∀ h_7 : JH, h_7 = wfi h 183 r0 (7 : Int32) → (Q (.inl none) h_7))))
theorem w_X8_quoted_103 {D : JD} {d : Nat} {Q : JO → JH → Prop} {K35 : Nat → JH → Prop} {r0 : Nat} {x1 : Int32} {h : JH} (hK35 : ∀ (r0 : Nat) (h : JH), K35 r0 h → JW D (d + 1) mX8_quoted 35 [some (vR 41 r0), none] [] h Q) (w : W_X8_quoted_103 D d Q K35 r0 x1 h) : JW D (d + 1) mX8_quoted 103 [some (vR 41 r0), some (vI x1)] [] h Q := by
  unfold W_X8_quoted_103 at w
  refine jw_aload_n (pc' := 104) rfl rfl ?_
  obtain ⟨g_1, w⟩ := w
  refine jw_getR (pc' := 107) (F := 188) (t' := 105) rfl rfl rfl rfl rfl g_1 ?_
  obtain ⟨g_2, w⟩ := w
  refine jw_getI (pc' := 110) (F := 268) rfl rfl rfl rfl g_2 ?_
  refine jw_bipush (pc' := 112) (x := (40 : Int32)) rfl rfl ?_
  refine jw_icmp_ne (tgt := 122) (pc' := 115) rfl rfl (fun c_3 => ?_) (fun c_3 => ?_)
  · replace w := w.1 c_3
    refine jw_aload_n (pc' := 123) rfl rfl ?_
    refine jw_getR (pc' := 126) (F := 188) (t' := 105) rfl rfl rfl rfl rfl g_1 ?_
    refine jw_iload_n (pc' := 127) rfl rfl ?_
    refine jw_cV (st := []) (sa := [vR 105 (jfr h 188 r0), vI x1]) okX13_put rfl rfl rfl rfl rfl rfl (jstp_virtual (sa := [vI x1]) (st := []) (k := 0) rfl rfl sX13_put okX13_put g_2 (one105.k g_2) rfl rfl) w (fun h_4 _ _ w => ?_)
    refine jw_goto (pc' := 35) rfl rfl ?_
    refine jw_gen (ls' := [some (vR 41 r0), none]) (st' := []) (And.intro (Or.inl rfl) (trivial)) (trivial) ?_
    exact hK35 _ _ w
  · replace w := w.2 c_3
    refine jw_aload_n (pc' := 116) rfl rfl ?_
    refine jw_bipush (pc' := 118) (x := (7 : Int32)) rfl rfl ?_
    refine jw_putI' (pc' := 121) (F := 183) rfl rfl rfl (Or.inr rfl) (Or.inl rfl) rfl (rfl) (rfl) rfl g_1 (fun h_7 e_8 => ?_)
    replace w := w h_7 e_8
    exact jw_return rfl rfl w
def W_X8_quoted_35 (D : JD) (d : Nat) (Q : JO → JH → Prop) (K35 : Nat → JH → Prop) (r0 : Nat) (h : JH) : Prop :=
  r0 ≠ 0 ∧ (cX8_at D d r0 (jfi h 185 r0) h (pI D h (fun v_4 h_2 => (v_4 < (32 : Int32) → W_X8_quoted_56 D d Q r0 h_2) ∧ (¬ v_4 < (32 : Int32) → (v_4 ≤ (126 : Int32) → ∀ h_7 : JH, h_7 = wfi h_2 185 r0 ((jfi h_2 185 r0) + (1 : Int32)) → ((¬ v_4 = (39 : Int32) → W_X8_quoted_103 D d Q K35 r0 v_4 h_7) ∧ (v_4 = (39 : Int32) → cX8_at D d r0 (jfi h_7 185 r0) h_7 (pI D h_7 (fun v_12 h_10 => (v_12 = (39 : Int32) → ∀ h_14 : JH, h_14 = wfi h_10 185 r0 ((jfi h_10 185 r0) + (1 : Int32)) → (W_X8_quoted_103 D d Q K35 r0 v_4 h_14)) ∧ (¬ v_12 = (39 : Int32) → Q (.inl none) h_10)) (jth Q))))) ∧ (¬ v_4 ≤ (126 : Int32) → W_X8_quoted_56 D d Q r0 h_2))) (jth Q)))
theorem w_X8_quoted_35 {D : JD} {d : Nat} {Q : JO → JH → Prop} {K35 : Nat → JH → Prop} {r0 : Nat} {h : JH} (hK35 : ∀ (r0 : Nat) (h : JH), K35 r0 h → JW D (d + 1) mX8_quoted 35 [some (vR 41 r0), none] [] h Q) (w : W_X8_quoted_35 D d Q K35 r0 h) : JW D (d + 1) mX8_quoted 35 [some (vR 41 r0), none] [] h Q := by
  unfold W_X8_quoted_35 at w
  refine jw_aload_n (pc' := 36) rfl rfl ?_
  refine jw_aload_n (pc' := 37) rfl rfl ?_
  obtain ⟨g_1, w⟩ := w
  refine jw_getI (pc' := 40) (F := 185) rfl rfl rfl rfl g_1 ?_
  refine jw_cI (st := []) (sa := [vR 41 r0, vI (jfi h 185 r0)]) okX8_at rfl rfl rfl rfl rfl rfl (jstp_virtual (sa := [vI (jfi h 185 r0)]) (st := []) (k := 0) rfl rfl sX8_at okX8_at g_1 (one41.k g_1) rfl rfl) w (fun v_4 h_2 _ _ w => ?_)
  refine jw_istore_n (pc' := 44) (ls' := [some (vR 41 r0), some (vI v_4)]) rfl (by decide) rfl ?_
  refine jw_iload_n (pc' := 45) rfl rfl ?_
  refine jw_bipush (pc' := 47) (x := (32 : Int32)) rfl rfl ?_
  refine jw_icmp_lt (tgt := 56) (pc' := 50) rfl rfl (fun c_5 => ?_) (fun c_5 => ?_)
  · replace w := w.1 c_5
    refine jw_gen (ls' := [some (vR 41 r0), none]) (st' := []) (And.intro (Or.inl rfl) (trivial)) (trivial) ?_
    exact w_X8_quoted_56 w
  · replace w := w.2 c_5
    refine jw_iload_n (pc' := 51) rfl rfl ?_
    refine jw_bipush (pc' := 53) (x := (126 : Int32)) rfl rfl ?_
    refine jw_icmp_le (tgt := 63) (pc' := 56) rfl rfl (fun c_6 => ?_) (fun c_6 => ?_)
    · replace w := w.1 c_6
      refine jw_aload_n (pc' := 64) rfl rfl ?_
      refine jw_dup (pc' := 65) rfl rfl ?_
      refine jw_getI (pc' := 68) (F := 185) rfl rfl rfl rfl g_1 ?_
      refine jw_iconst (pc' := 69) (x := (1 : Int32)) rfl rfl ?_
      refine jw_iadd (pc' := 70) rfl ?_
      refine jw_putI' (pc' := 73) (F := 185) rfl rfl rfl (Or.inr rfl) (Or.inl rfl) rfl (rfl) (rfl) rfl g_1 (fun h_7 e_8 => ?_)
      replace w := w h_7 e_8
      refine jw_iload_n (pc' := 74) rfl rfl ?_
      refine jw_bipush (pc' := 76) (x := (39 : Int32)) rfl rfl ?_
      refine jw_icmp_ne (tgt := 103) (pc' := 79) rfl rfl (fun c_9 => ?_) (fun c_9 => ?_)
      · replace w := w.1 c_9
        exact w_X8_quoted_103 hK35 w
      · replace w := w.2 c_9
        refine jw_aload_n (pc' := 80) rfl rfl ?_
        refine jw_aload_n (pc' := 81) rfl rfl ?_
        refine jw_getI (pc' := 84) (F := 185) rfl rfl rfl rfl g_1 ?_
        refine jw_cI (st := []) (sa := [vR 41 r0, vI (jfi h_7 185 r0)]) okX8_at rfl rfl rfl rfl rfl rfl (jstp_virtual (sa := [vI (jfi h_7 185 r0)]) (st := []) (k := 0) rfl rfl sX8_at okX8_at g_1 (one41.k g_1) rfl rfl) w (fun v_12 h_10 _ _ w => ?_)
        refine jw_bipush (pc' := 89) (x := (39 : Int32)) rfl rfl ?_
        refine jw_icmp_eq (tgt := 93) (pc' := 92) rfl rfl (fun c_13 => ?_) (fun c_13 => ?_)
        · replace w := w.1 c_13
          refine jw_aload_n (pc' := 94) rfl rfl ?_
          refine jw_dup (pc' := 95) rfl rfl ?_
          refine jw_getI (pc' := 98) (F := 185) rfl rfl rfl rfl g_1 ?_
          refine jw_iconst (pc' := 99) (x := (1 : Int32)) rfl rfl ?_
          refine jw_iadd (pc' := 100) rfl ?_
          refine jw_putI' (pc' := 103) (F := 185) rfl rfl rfl (Or.inr rfl) (Or.inl rfl) rfl (rfl) (rfl) rfl g_1 (fun h_14 e_15 => ?_)
          replace w := w h_14 e_15
          exact w_X8_quoted_103 hK35 w
        · replace w := w.2 c_13
          exact jw_return rfl rfl w
    · replace w := w.2 c_6
      refine jw_gen (ls' := [some (vR 41 r0), none]) (st' := []) (And.intro (Or.inl rfl) (trivial)) (trivial) ?_
      exact w_X8_quoted_56 w
def L_X8_quoted_35 (D : JD) (d : Nat) (Q : JO → JH → Prop) : Nat → Nat → JH → Prop
  | 0 => fun _ _ => False
  | n + 1 => fun r0 h => W_X8_quoted_35 D d Q (L_X8_quoted_35 D d Q n) r0 h
theorem l_X8_quoted_35 {D : JD} {d : Nat} {Q : JO → JH → Prop} : ∀ (n : Nat) (r0 : Nat) (h : JH), L_X8_quoted_35 D d Q n r0 h → JW D (d + 1) mX8_quoted 35 [some (vR 41 r0), none] [] h Q := by
  intro n
  induction n with
  | zero => intro _ _ w; exact w.elim
  | succ n ih => intro _ h w; exact w_X8_quoted_35 ih w
def W_X8_quoted_0 (D : JD) (d : Nat) (Q : JO → JH → Prop) (r0 : Nat) (h : JH) : Prop :=
  r0 ≠ 0 ∧ ∀ h_2 : JH, h_2 = wfi h 183 r0 (4 : Int32) → (∀ (r_4 : Nat) (h_5 : JH), r_4 = jsz h_2 + 1 → h_5 = nwo h_2 105 4 → (cX13_init D d r_4 h_5 (pV D h_5 (fun h_8 => ∀ h_11 : JH, h_11 = wfr h_8 188 r0 r_4 → ((jfr h_11 188 r0) ≠ 0 ∧ ∀ h_14 : JH, h_14 = wfi h_11 266 (jfr h_11 188 r0) (25 : Int32) → (∀ h_16 : JH, h_16 = wfi h_14 185 r0 ((jfi h_14 185 r0) + (1 : Int32)) → (∃ n, L_X8_quoted_35 D d Q n r0 h_16)))) (jth Q))))
theorem w_X8_quoted_0 {D : JD} {d : Nat} {Q : JO → JH → Prop} {r0 : Nat} {h : JH} (w : W_X8_quoted_0 D d Q r0 h) : JW D (d + 1) mX8_quoted 0 [some (vR 41 r0), none] [] h Q := by
  unfold W_X8_quoted_0 at w
  refine jw_aload_n (pc' := 1) rfl rfl ?_
  refine jw_iconst (pc' := 2) (x := (4 : Int32)) rfl rfl ?_
  obtain ⟨g_1, w⟩ := w
  refine jw_putI' (pc' := 5) (F := 183) rfl rfl rfl (Or.inr rfl) (Or.inl rfl) rfl (rfl) (rfl) rfl g_1 (fun h_2 e_3 => ?_)
  replace w := w h_2 e_3
  refine jw_aload_n (pc' := 6) rfl rfl ?_
  refine jw_new' (pc' := 9) (k := 105) (n := 4) rfl rfl rfl rfl rfl rfl rfl (fun r_4 h_5 e_6 e_7 => ?_)
  replace w := w r_4 h_5 e_6 e_7
  refine jw_dup (pc' := 10) rfl rfl ?_
  refine jw_cV (st := [vR 105 r_4, vR 41 r0]) (sa := [vR 105 r_4]) okX13_init rfl rfl rfl rfl rfl rfl (jstp_init (sa := []) (st := [vR 105 r_4, vR 41 r0]) rfl rfl sX13_init okX13_init (lw_g (jtb_mem (c := 15) (i := 221) rfl) rfl) (jnz e_6) rfl rfl) w (fun h_8 _ _ w => ?_)
  refine jw_putR' (pc' := 16) (F := 188) rfl rfl rfl (Or.inr rfl) (Or.inl rfl) rfl rfl rfl g_1 (fun h_11 e_12 => ?_)
  replace w := w h_11 e_12
  refine jw_aload_n (pc' := 17) rfl rfl ?_
  refine jw_getR (pc' := 20) (F := 188) (t' := 105) rfl rfl rfl rfl rfl g_1 ?_
  refine jw_bipush (pc' := 22) (x := (25 : Int32)) rfl rfl ?_
  obtain ⟨g_13, w⟩ := w
  refine jw_putI' (pc' := 25) (F := 266) rfl rfl rfl (Or.inr rfl) (Or.inl rfl) rfl (rfl) (rfl) rfl g_13 (fun h_14 e_15 => ?_)
  replace w := w h_14 e_15
  refine jw_aload_n (pc' := 26) rfl rfl ?_
  refine jw_dup (pc' := 27) rfl rfl ?_
  refine jw_getI (pc' := 30) (F := 185) rfl rfl rfl rfl g_1 ?_
  refine jw_iconst (pc' := 31) (x := (1 : Int32)) rfl rfl ?_
  refine jw_iadd (pc' := 32) rfl ?_
  refine jw_putI' (pc' := 35) (F := 185) rfl rfl rfl (Or.inr rfl) (Or.inl rfl) rfl (rfl) (rfl) rfl g_1 (fun h_16 e_17 => ?_)
  replace w := w h_16 e_17
  obtain ⟨n, w⟩ := w
  exact l_X8_quoted_35 n _ _ w
def T_X8_quoted (D : JD) (d : Nat) (Q : JO → JH → Prop) (r0 : Nat) (h : JH) : Prop := W_X8_quoted_0 D d Q r0 h
theorem t_X8_quoted {D : JD} {d : Nat} {Q : JO → JH → Prop} {r0 : Nat} {h : JH} (w : T_X8_quoted D d Q r0 h) : cX8_quoted D (d + 1) r0 h Q := by
  unfold T_X8_quoted at w
  unfold cX8_quoted
  exact w_X8_quoted_0 w
def W_X8_take_0 (D : JD) (d : Nat) (Q : JO → JH → Prop) (r0 : Nat) (r1 : Nat) (h : JH) : Prop :=
  r0 ≠ 0 ∧ (cX8_is D d r0 r1 h (pI D h (fun v_4 h_2 => (¬ v_4 = 0 → cX8_next D d r0 h_2 (pV D h_2 (fun h_6 => Q (.inl (some (vI (1 : Int32)))) h_6) (jth Q))) ∧ (v_4 = 0 → Q (.inl (some (vI (0 : Int32)))) h_2)) (jth Q)))
theorem w_X8_take_0 {D : JD} {d : Nat} {Q : JO → JH → Prop} {r0 : Nat} {r1 : Nat} {h : JH} (w : W_X8_take_0 D d Q r0 r1 h) : JW D (d + 1) mX8_take 0 [some (vR 41 r0), some (vR 64 r1)] [] h Q := by
  unfold W_X8_take_0 at w
  refine jw_aload_n (pc' := 1) rfl rfl ?_
  refine jw_aload_n (pc' := 2) rfl rfl ?_
  obtain ⟨g_1, w⟩ := w
  refine jw_cI (st := []) (sa := [vR 41 r0, vR 64 r1]) okX8_is rfl rfl rfl rfl rfl rfl (jstp_virtual (sa := [vR 64 r1]) (st := []) (k := 0) rfl rfl sX8_is okX8_is g_1 (one41.k g_1) rfl rfl) w (fun v_4 h_2 _ _ w => ?_)
  refine jw_if_ne (tgt := 10) (pc' := 8) rfl rfl (fun c_5 => ?_) (fun c_5 => ?_)
  · replace w := w.1 c_5
    refine jw_aload_n (pc' := 11) rfl rfl ?_
    refine jw_cV (st := []) (sa := [vR 41 r0]) okX8_next rfl rfl rfl rfl rfl rfl (jstp_virtual (sa := []) (st := []) (k := 0) rfl rfl sX8_next okX8_next g_1 (one41.k g_1) rfl rfl) w (fun h_6 _ _ w => ?_)
    refine jw_iconst (pc' := 15) (x := (1 : Int32)) rfl rfl ?_
    exact jw_ireturn rfl rfl (rfl) w
  · replace w := w.2 c_5
    refine jw_iconst (pc' := 9) (x := (0 : Int32)) rfl rfl ?_
    exact jw_ireturn rfl rfl (rfl) w
def T_X8_take (D : JD) (d : Nat) (Q : JO → JH → Prop) (r0 : Nat) (r1 : Nat) (h : JH) : Prop := W_X8_take_0 D d Q r0 r1 h
theorem t_X8_take {D : JD} {d : Nat} {Q : JO → JH → Prop} {r0 : Nat} {r1 : Nat} {h : JH} (w : T_X8_take D d Q r0 r1 h) : cX8_take D (d + 1) r0 r1 h Q := by
  unfold T_X8_take at w
  unfold cX8_take
  exact w_X8_take_0 w
def W_X8_is_42 (D : JD) (d : Nat) (Q : JO → JH → Prop) (h : JH) : Prop :=
  Q (.inl (some (vI (0 : Int32)))) h
theorem w_X8_is_42 {D : JD} {d : Nat} {Q : JO → JH → Prop} {h : JH} (w : W_X8_is_42 D d Q h) : JW D (d + 1) mX8_is 42 [none, none, none] [] h Q := by
  unfold W_X8_is_42 at w
  refine jw_iconst (pc' := 43) (x := (0 : Int32)) rfl rfl ?_
  exact jw_ireturn rfl rfl (rfl) w
def W_X8_is_46 (D : JD) (d : Nat) (Q : JO → JH → Prop) (K46 : Nat → Nat → Int32 → JH → Prop) (r0 : Nat) (r1 : Nat) (x2 : Int32) (h : JH) : Prop :=
  r1 ≠ 0 ∧ (cJ5_length D d r1 h (pI D h (fun v_4 h_2 => (v_4 ≤ x2 → Q (.inl (some (vI (1 : Int32)))) h_2) ∧ (¬ v_4 ≤ x2 → r0 ≠ 0 ∧ (cX8_at D d r0 ((jfi h_2 184 r0) + x2) h_2 (pI D h_2 (fun v_9 h_7 => cJ5_charAt D d r1 x2 h_7 (pI D h_7 (fun v_12 h_10 => (v_9 = v_12 → K46 r0 r1 (x2 + (1 : Int32)) h_10) ∧ (¬ v_9 = v_12 → Q (.inl (some (vI (0 : Int32)))) h_10)) (jth Q))) (jth Q))))) (jth Q)))
theorem w_X8_is_46 {D : JD} {d : Nat} {Q : JO → JH → Prop} {K46 : Nat → Nat → Int32 → JH → Prop} {r0 : Nat} {r1 : Nat} {x2 : Int32} {h : JH} (hK46 : ∀ (r0 : Nat) (r1 : Nat) (x2 : Int32) (h : JH), K46 r0 r1 x2 h → JW D (d + 1) mX8_is 46 [some (vR 41 r0), some (vR 64 r1), some (vI x2)] [] h Q) (w : W_X8_is_46 D d Q K46 r0 r1 x2 h) : JW D (d + 1) mX8_is 46 [some (vR 41 r0), some (vR 64 r1), some (vI x2)] [] h Q := by
  unfold W_X8_is_46 at w
  refine jw_iload_n (pc' := 47) rfl rfl ?_
  refine jw_aload_n (pc' := 48) rfl rfl ?_
  obtain ⟨g_1, w⟩ := w
  refine jw_cI (st := [vI x2]) (sa := [vR 64 r1]) okJ5_length rfl rfl rfl rfl rfl rfl (jstp_virtual (sa := []) (st := [vI x2]) (k := 0) rfl rfl sJ5_length okJ5_length g_1 (one64.k g_1) rfl rfl) w (fun v_4 h_2 _ _ w => ?_)
  refine jw_icmp_ge (tgt := 80) (pc' := 54) rfl rfl (fun c_5 => ?_) (fun c_5 => ?_)
  · replace w := w.1 c_5
    refine jw_iconst (pc' := 81) (x := (1 : Int32)) rfl rfl ?_
    exact jw_ireturn rfl rfl (rfl) w
  · replace w := w.2 c_5
    refine jw_aload_n (pc' := 55) rfl rfl ?_
    refine jw_aload_n (pc' := 56) rfl rfl ?_
    obtain ⟨g_6, w⟩ := w
    refine jw_getI (pc' := 59) (F := 184) rfl rfl rfl rfl g_6 ?_
    refine jw_iload_n (pc' := 60) rfl rfl ?_
    refine jw_iadd (pc' := 61) rfl ?_
    refine jw_cI (st := []) (sa := [vR 41 r0, vI ((jfi h_2 184 r0) + x2)]) okX8_at rfl rfl rfl rfl rfl rfl (jstp_virtual (sa := [vI ((jfi h_2 184 r0) + x2)]) (st := []) (k := 0) rfl rfl sX8_at okX8_at g_6 (one41.k g_6) rfl rfl) w (fun v_9 h_7 _ _ w => ?_)
    refine jw_aload_n (pc' := 65) rfl rfl ?_
    refine jw_iload_n (pc' := 66) rfl rfl ?_
    refine jw_cI (st := [vI v_9]) (sa := [vR 64 r1, vI x2]) okJ5_charAt rfl rfl rfl rfl rfl rfl (jstp_virtual (sa := [vI x2]) (st := [vI v_9]) (k := 0) rfl rfl sJ5_charAt okJ5_charAt g_1 (one64.k g_1) rfl rfl) w (fun v_12 h_10 _ _ w => ?_)
    refine jw_icmp_eq (tgt := 74) (pc' := 72) rfl rfl (fun c_13 => ?_) (fun c_13 => ?_)
    · replace w := w.1 c_13
      refine jw_iinc (pc' := 77) (y := x2 + (1 : Int32)) (ls' := [some (vR 41 r0), some (vR 64 r1), some (vI (x2 + (1 : Int32)))]) rfl (by decide) rfl rfl rfl ?_
      refine jw_goto (pc' := 46) rfl rfl ?_
      exact hK46 _ _ _ _ w
    · replace w := w.2 c_13
      refine jw_iconst (pc' := 73) (x := (0 : Int32)) rfl rfl ?_
      exact jw_ireturn rfl rfl (rfl) w
def L_X8_is_46 (D : JD) (d : Nat) (Q : JO → JH → Prop) : Nat → Nat → Nat → Int32 → JH → Prop
  | 0 => fun _ _ _ _ => False
  | n + 1 => fun r0 r1 x2 h => W_X8_is_46 D d Q (L_X8_is_46 D d Q n) r0 r1 x2 h
theorem l_X8_is_46 {D : JD} {d : Nat} {Q : JO → JH → Prop} : ∀ (n : Nat) (r0 : Nat) (r1 : Nat) (x2 : Int32) (h : JH), L_X8_is_46 D d Q n r0 r1 x2 h → JW D (d + 1) mX8_is 46 [some (vR 41 r0), some (vR 64 r1), some (vI x2)] [] h Q := by
  intro n
  induction n with
  | zero => intro _ _ _ _ w; exact w.elim
  | succ n ih => intro _ _ _ h w; exact w_X8_is_46 ih w
def W_X8_is_0 (D : JD) (d : Nat) (Q : JO → JH → Prop) (r0 : Nat) (r1 : Nat) (h : JH) : Prop :=
  r0 ≠ 0 ∧ ((¬ (jfi h 183 r0) = (1 : Int32) → (¬ (jfi h 183 r0) = (6 : Int32) → W_X8_is_42 D d Q h) ∧ ((jfi h 183 r0) = (6 : Int32) → r1 ≠ 0 ∧ (cJ5_length D d r1 h (pI D h (fun v_7 h_5 => (((jfi h 185 r0) - (jfi h 184 r0)) = v_7 → ∃ n, L_X8_is_46 D d Q n r0 r1 (0 : Int32) h_5) ∧ (¬ ((jfi h 185 r0) - (jfi h 184 r0)) = v_7 → W_X8_is_42 D d Q h_5)) (jth Q))))) ∧ ((jfi h 183 r0) = (1 : Int32) → (jfr h 186 r0) ≠ 0 ∧ (cJ5_equals D d (jfr h 186 r0) r1 h (pI D h (fun v_12 h_10 => jbo v_12 ∧ (Q (.inl (some (vI v_12))) h_10)) (jth Q)))))
theorem w_X8_is_0 {D : JD} {d : Nat} {Q : JO → JH → Prop} {r0 : Nat} {r1 : Nat} {h : JH} (w : W_X8_is_0 D d Q r0 r1 h) : JW D (d + 1) mX8_is 0 [some (vR 41 r0), some (vR 64 r1), none] [] h Q := by
  unfold W_X8_is_0 at w
  refine jw_aload_n (pc' := 1) rfl rfl ?_
  obtain ⟨g_1, w⟩ := w
  refine jw_getI (pc' := 4) (F := 183) rfl rfl rfl rfl g_1 ?_
  refine jw_iconst (pc' := 5) (x := (1 : Int32)) rfl rfl ?_
  refine jw_icmp_ne (tgt := 17) (pc' := 8) rfl rfl (fun c_2 => ?_) (fun c_2 => ?_)
  · replace w := w.1 c_2
    refine jw_aload_n (pc' := 18) rfl rfl ?_
    refine jw_getI (pc' := 21) (F := 183) rfl rfl rfl rfl g_1 ?_
    refine jw_bipush (pc' := 23) (x := (6 : Int32)) rfl rfl ?_
    refine jw_icmp_ne (tgt := 42) (pc' := 26) rfl rfl (fun c_3 => ?_) (fun c_3 => ?_)
    · replace w := w.1 c_3
      refine jw_gen (ls' := [none, none, none]) (st' := []) (trivial) (trivial) ?_
      exact w_X8_is_42 w
    · replace w := w.2 c_3
      refine jw_aload_n (pc' := 27) rfl rfl ?_
      refine jw_getI (pc' := 30) (F := 185) rfl rfl rfl rfl g_1 ?_
      refine jw_aload_n (pc' := 31) rfl rfl ?_
      refine jw_getI (pc' := 34) (F := 184) rfl rfl rfl rfl g_1 ?_
      refine jw_isub (pc' := 35) rfl ?_
      refine jw_aload_n (pc' := 36) rfl rfl ?_
      obtain ⟨g_4, w⟩ := w
      refine jw_cI (st := [vI ((jfi h 185 r0) - (jfi h 184 r0))]) (sa := [vR 64 r1]) okJ5_length rfl rfl rfl rfl rfl rfl (jstp_virtual (sa := []) (st := [vI ((jfi h 185 r0) - (jfi h 184 r0))]) (k := 0) rfl rfl sJ5_length okJ5_length g_4 (one64.k g_4) rfl rfl) w (fun v_7 h_5 _ _ w => ?_)
      refine jw_icmp_eq (tgt := 44) (pc' := 42) rfl rfl (fun c_8 => ?_) (fun c_8 => ?_)
      · replace w := w.1 c_8
        refine jw_iconst (pc' := 45) (x := (0 : Int32)) rfl rfl ?_
        refine jw_istore_n (pc' := 46) (ls' := [some (vR 41 r0), some (vR 64 r1), some (vI (0 : Int32))]) rfl (by decide) rfl ?_
        obtain ⟨n, w⟩ := w
        exact l_X8_is_46 n _ _ _ _ w
      · replace w := w.2 c_8
        refine jw_gen (ls' := [none, none, none]) (st' := []) (trivial) (trivial) ?_
        exact w_X8_is_42 w
  · replace w := w.2 c_2
    refine jw_aload_n (pc' := 9) rfl rfl ?_
    refine jw_getR (pc' := 12) (F := 186) (t' := 64) rfl rfl rfl rfl rfl g_1 ?_
    refine jw_aload_n (pc' := 13) rfl rfl ?_
    obtain ⟨g_9, w⟩ := w
    refine jw_cI (st := []) (sa := [vR 64 (jfr h 186 r0), vR 64 r1]) okJ5_equals rfl rfl rfl rfl rfl rfl (jstp_virtual (sa := [vR 64 r1]) (st := []) (k := 0) rfl rfl sJ5_equals okJ5_equals g_9 (one64.k g_9) rfl rfl) w (fun v_12 h_10 _ _ w => ?_)
    obtain ⟨g_13, w⟩ := w
    exact jw_ireturn rfl rfl (g_13.nr) w
def T_X8_is (D : JD) (d : Nat) (Q : JO → JH → Prop) (r0 : Nat) (r1 : Nat) (h : JH) : Prop := W_X8_is_0 D d Q r0 r1 h
theorem t_X8_is {D : JD} {d : Nat} {Q : JO → JH → Prop} {r0 : Nat} {r1 : Nat} {h : JH} (w : T_X8_is D d Q r0 r1 h) : cX8_is D (d + 1) r0 r1 h Q := by
  unfold T_X8_is at w
  unfold cX8_is
  exact w_X8_is_0 w
def W_X8_can_0 (D : JD) (d : Nat) (Q : JO → JH → Prop) (r0 : Nat) (x1 : Int32) (h : JH) : Prop :=
  (¬ x1 = 0 → Q (.inl none) h) ∧ (x1 = 0 → r0 ≠ 0 ∧ (cX8_broken D d r0 h (pR D h 42 (fun v_5 h_3 => v_5 ≠ 0 ∧ (Q (.inr v_5) h_3)) (jth Q))))
theorem w_X8_can_0 {D : JD} {d : Nat} {Q : JO → JH → Prop} {r0 : Nat} {x1 : Int32} {h : JH} (w : W_X8_can_0 D d Q r0 x1 h) : JW D (d + 1) mX8_can 0 [some (vR 41 r0), some (vI x1)] [] h Q := by
  unfold W_X8_can_0 at w
  refine jw_iload_n (pc' := 1) rfl rfl ?_
  refine jw_if_ne (tgt := 9) (pc' := 4) rfl rfl (fun c_1 => ?_) (fun c_1 => ?_)
  · replace w := w.1 c_1
    exact jw_return rfl rfl w
  · replace w := w.2 c_1
    refine jw_aload_n (pc' := 5) rfl rfl ?_
    obtain ⟨g_2, w⟩ := w
    refine jw_cR (st := []) (sa := [vR 41 r0]) okX8_broken rfl rfl rfl rfl rfl rfl (jstp_virtual (sa := []) (st := []) (k := 0) rfl rfl sX8_broken okX8_broken g_2 (one41.k g_2) rfl rfl) w (fun v_5 h_3 _ _ _ w => ?_)
    obtain ⟨g_6, w⟩ := w
    exact jw_athrow rfl rfl g_6 w
def T_X8_can (D : JD) (d : Nat) (Q : JO → JH → Prop) (r0 : Nat) (x1 : Int32) (h : JH) : Prop := W_X8_can_0 D d Q r0 x1 h
theorem t_X8_can {D : JD} {d : Nat} {Q : JO → JH → Prop} {r0 : Nat} {x1 : Int32} {h : JH} (w : T_X8_can D d Q r0 x1 h) : cX8_can D (d + 1) r0 x1 h Q := by
  unfold T_X8_can at w
  unfold cX8_can
  exact w_X8_can_0 w
def W_X8_broken_0 (D : JD) (d : Nat) (Q : JO → JH → Prop) (r0 : Nat) (h : JH) : Prop :=
  r0 ≠ 0 ∧ ((jfr h 175 r0) ≠ 0 ∧ jfi h 330 (jfr h 175 r0) ≠ 0 ∧ ∀ h_4 : JH, h_4 = wfr h 245 (jfr h 175 r0) (jcs D 236) → ((jfr h_4 175 r0) ≠ 0 ∧ jfi h_4 330 (jfr h_4 175 r0) ≠ 0 ∧ ∀ h_8 : JH, h_8 = wfi h_4 246 (jfr h_4 175 r0) ((jfi h_4 184 r0) + (1 : Int32)) → (Q (.inl (some (vR 42 (jfr h_8 175 r0)))) h_8)))
theorem w_X8_broken_0 {D : JD} {d : Nat} {Q : JO → JH → Prop} {r0 : Nat} {h : JH} (w : W_X8_broken_0 D d Q r0 h) : JW D (d + 1) mX8_broken 0 [some (vR 41 r0)] [] h Q := by
  unfold W_X8_broken_0 at w
  refine jw_aload_n (pc' := 1) rfl rfl ?_
  obtain ⟨g_1, w⟩ := w
  refine jw_getR (pc' := 4) (F := 175) (t' := 42) rfl rfl rfl rfl rfl g_1 ?_
  refine jw_ldcS (pc' := 6) rfl rfl rfl rfl ?_
  obtain ⟨g_2, w⟩ := w
  obtain ⟨g_3, w⟩ := w
  refine jw_putR' (pc' := 9) (F := 245) rfl rfl rfl (Or.inr rfl) (Or.inl rfl) rfl rfl rfl g_2 (fun h_4 e_5 => ?_) (hx := Or.inr g_3)
  replace w := w h_4 e_5
  refine jw_aload_n (pc' := 10) rfl rfl ?_
  refine jw_getR (pc' := 13) (F := 175) (t' := 42) rfl rfl rfl rfl rfl g_1 ?_
  refine jw_aload_n (pc' := 14) rfl rfl ?_
  refine jw_getI (pc' := 17) (F := 184) rfl rfl rfl rfl g_1 ?_
  refine jw_iconst (pc' := 18) (x := (1 : Int32)) rfl rfl ?_
  refine jw_iadd (pc' := 19) rfl ?_
  obtain ⟨g_6, w⟩ := w
  obtain ⟨g_7, w⟩ := w
  refine jw_putI' (pc' := 22) (F := 246) rfl rfl rfl (Or.inr rfl) (Or.inl rfl) rfl (rfl) (rfl) rfl g_6 (fun h_8 e_9 => ?_) (hx := Or.inr g_7)
  replace w := w h_8 e_9
  refine jw_aload_n (pc' := 23) rfl rfl ?_
  refine jw_getR (pc' := 26) (F := 175) (t' := 42) rfl rfl rfl rfl rfl g_1 ?_
  exact jw_areturn rfl rfl rfl rfl rfl w
def T_X8_broken (D : JD) (d : Nat) (Q : JO → JH → Prop) (r0 : Nat) (h : JH) : Prop := W_X8_broken_0 D d Q r0 h
theorem t_X8_broken {D : JD} {d : Nat} {Q : JO → JH → Prop} {r0 : Nat} {h : JH} (w : T_X8_broken D d Q r0 h) : cX8_broken D (d + 1) r0 h Q := by
  unfold T_X8_broken at w
  unfold cX8_broken
  exact w_X8_broken_0 w
def W_X8_statement_221 (D : JD) (d : Nat) (Q : JO → JH → Prop) (r1 : Nat) (h : JH) : Prop :=
  Q (.inl (some (vR 47 r1))) h
theorem w_X8_statement_221 {D : JD} {d : Nat} {Q : JO → JH → Prop} {r1 : Nat} {h : JH} (w : W_X8_statement_221 D d Q r1 h) : JW D (d + 1) mX8_statement 221 [none, some (vR 47 r1)] [] h Q := by
  unfold W_X8_statement_221 at w
  refine jw_aload_n (pc' := 222) rfl rfl ?_
  exact jw_areturn rfl rfl rfl rfl rfl w
def W_X8_statement_0 (D : JD) (d : Nat) (Q : JO → JH → Prop) (r0 : Nat) (h : JH) : Prop :=
  r0 ≠ 0 ∧ ∀ h_2 : JH, h_2 = wfi h 189 r0 (0 : Int32) → (∀ h_4 : JH, h_4 = wfi h_2 190 r0 (0 : Int32) → ((jfr h_4 191 r0) ≠ 0 ∧ (cX45_clear D d (jfr h_4 191 r0) h_4 (pV D h_4 (fun h_7 => cX8_take D d r0 (jcs D 237) h_7 (pI D h_7 (fun v_12 h_10 => (v_12 = 0 → cX8_take D d r0 (jcs D 250) h_10 (pI D h_10 (fun v_16 h_14 => (v_16 = 0 → cX8_take D d r0 (jcs D 251) h_14 (pI D h_14 (fun v_20 h_18 => (v_20 = 0 → cX8_take D d r0 (jcs D 274) h_18 (pI D h_18 (fun v_24 h_22 => (v_24 = 0 → cX8_take D d r0 (jcs D 277) h_22 (pI D h_22 (fun v_28 h_26 => (v_28 = 0 → cX8_take D d r0 (jcs D 279) h_26 (pI D h_26 (fun v_32 h_30 => (v_32 = 0 → cX8_take D d r0 (jcs D 280) h_30 (pI D h_30 (fun v_36 h_34 => (v_36 = 0 → cX8_take D d r0 (jcs D 281) h_34 (pI D h_34 (fun v_40 h_38 => (v_40 = 0 → cX8_need D d r0 (jcs D 282) h_38 (pV D h_38 (fun h_42 => cX8_select D d r0 (jfr h_4 191 r0) h_42 (pV D h_42 (fun h_45 => W_X8_statement_221 D d Q (jfr h_4 191 r0) h_45) (jth Q))) (jth Q))) ∧ (¬ v_40 = 0 → ∀ h_48 : JH, h_48 = wfi h_38 270 (jfr h_4 191 r0) (7 : Int32) → (W_X8_statement_221 D d Q (jfr h_4 191 r0) h_48))) (jth Q))) ∧ (¬ v_36 = 0 → ∀ h_50 : JH, h_50 = wfi h_34 270 (jfr h_4 191 r0) (6 : Int32) → (W_X8_statement_221 D d Q (jfr h_4 191 r0) h_50))) (jth Q))) ∧ (¬ v_32 = 0 → ∀ h_52 : JH, h_52 = wfi h_30 270 (jfr h_4 191 r0) (5 : Int32) → (W_X8_statement_221 D d Q (jfr h_4 191 r0) h_52))) (jth Q))) ∧ (¬ v_28 = 0 → ∀ h_54 : JH, h_54 = wfi h_26 270 (jfr h_4 191 r0) (4 : Int32) → (cX8_need D d r0 (jcs D 278) h_54 (pV D h_54 (fun h_56 => cX8_name D d r0 h_56 (pR D h_56 64 (fun v_61 h_59 => ∀ h_62 : JH, h_62 = wfr h_59 271 (jfr h_4 191 r0) v_61 → (cX8_take D d r0 (jcs D 276) h_62 (pI D h_62 (fun v_66 h_64 => (v_66 = 0 → W_X8_statement_221 D d Q (jfr h_4 191 r0) h_64) ∧ (¬ v_66 = 0 → cX8_expression D d r0 h_64 (pR D h_64 48 (fun v_70 h_68 => ∀ h_71 : JH, h_71 = wfr h_68 282 (jfr h_4 191 r0) v_70 → (W_X8_statement_221 D d Q (jfr h_4 191 r0) h_71)) (jth Q)))) (jth Q)))) (jth Q))) (jth Q))))) (jth Q))) ∧ (¬ v_24 = 0 → cX8_update D d r0 (jfr h_4 191 r0) h_22 (pV D h_22 (fun h_73 => W_X8_statement_221 D d Q (jfr h_4 191 r0) h_73) (jth Q)))) (jth Q))) ∧ (¬ v_20 = 0 → cX8_insert D d r0 (jfr h_4 191 r0) h_18 (pV D h_18 (fun h_76 => W_X8_statement_221 D d Q (jfr h_4 191 r0) h_76) (jth Q)))) (jth Q))) ∧ (¬ v_16 = 0 → ∀ h_79 : JH, h_79 = wfi h_14 270 (jfr h_4 191 r0) (1 : Int32) → (cX8_need D d r0 (jcs D 238) h_79 (pV D h_79 (fun h_81 => cX8_name D d r0 h_81 (pR D h_81 64 (fun v_86 h_84 => ∀ h_87 : JH, h_87 = wfr h_84 271 (jfr h_4 191 r0) v_86 → (W_X8_statement_221 D d Q (jfr h_4 191 r0) h_87)) (jth Q))) (jth Q))))) (jth Q))) ∧ (¬ v_12 = 0 → cX8_create D d r0 (jfr h_4 191 r0) h_10 (pV D h_10 (fun h_89 => W_X8_statement_221 D d Q (jfr h_4 191 r0) h_89) (jth Q)))) (jth Q))) (jth Q)))))
theorem w_X8_statement_0 {D : JD} {d : Nat} {Q : JO → JH → Prop} {r0 : Nat} {h : JH} (w : W_X8_statement_0 D d Q r0 h) : JW D (d + 1) mX8_statement 0 [some (vR 41 r0), none] [] h Q := by
  unfold W_X8_statement_0 at w
  refine jw_aload_n (pc' := 1) rfl rfl ?_
  refine jw_iconst (pc' := 2) (x := (0 : Int32)) rfl rfl ?_
  obtain ⟨g_1, w⟩ := w
  refine jw_putI' (pc' := 5) (F := 189) rfl rfl rfl (Or.inr rfl) (Or.inl rfl) rfl (rfl) (rfl) rfl g_1 (fun h_2 e_3 => ?_)
  replace w := w h_2 e_3
  refine jw_aload_n (pc' := 6) rfl rfl ?_
  refine jw_iconst (pc' := 7) (x := (0 : Int32)) rfl rfl ?_
  refine jw_putI' (pc' := 10) (F := 190) rfl rfl rfl (Or.inr rfl) (Or.inl rfl) rfl (rfl) (rfl) rfl g_1 (fun h_4 e_5 => ?_)
  replace w := w h_4 e_5
  refine jw_aload_n (pc' := 11) rfl rfl ?_
  refine jw_getR (pc' := 14) (F := 191) (t' := 47) rfl rfl rfl rfl rfl g_1 ?_
  refine jw_astore_n (pc' := 15) (ls' := [some (vR 41 r0), some (vR 47 (jfr h_4 191 r0))]) rfl (by decide) rfl ?_
  refine jw_aload_n (pc' := 16) rfl rfl ?_
  obtain ⟨g_6, w⟩ := w
  refine jw_cV (st := []) (sa := [vR 47 (jfr h_4 191 r0)]) okX45_clear rfl rfl rfl rfl rfl rfl (jstp_virtual (sa := []) (st := []) (k := 0) rfl rfl sX45_clear okX45_clear g_6 (one47.k g_6) rfl rfl) w (fun h_7 _ _ w => ?_)
  refine jw_aload_n (pc' := 20) rfl rfl ?_
  refine jw_ldcS (pc' := 22) rfl rfl rfl rfl ?_
  refine jw_cI (st := []) (sa := [vR 41 r0, vR 51 (jcs D 237)]) okX8_take rfl rfl rfl rfl rfl rfl (jstp_virtual (sa := [vR 51 (jcs D 237)]) (st := []) (k := 0) rfl rfl sX8_take okX8_take g_1 (one41.k g_1) rfl rfl) w (fun v_12 h_10 _ _ w => ?_)
  refine jw_if_eq (tgt := 36) (pc' := 28) rfl rfl (fun c_13 => ?_) (fun c_13 => ?_)
  · replace w := w.1 c_13
    refine jw_aload_n (pc' := 37) rfl rfl ?_
    refine jw_ldcS (pc' := 39) rfl rfl rfl rfl ?_
    refine jw_cI (st := []) (sa := [vR 41 r0, vR 51 (jcs D 250)]) okX8_take rfl rfl rfl rfl rfl rfl (jstp_virtual (sa := [vR 51 (jcs D 250)]) (st := []) (k := 0) rfl rfl sX8_take okX8_take g_1 (one41.k g_1) rfl rfl) w (fun v_16 h_14 _ _ w => ?_)
    refine jw_if_eq (tgt := 67) (pc' := 45) rfl rfl (fun c_17 => ?_) (fun c_17 => ?_)
    · replace w := w.1 c_17
      refine jw_aload_n (pc' := 68) rfl rfl ?_
      refine jw_ldcS (pc' := 70) rfl rfl rfl rfl ?_
      refine jw_cI (st := []) (sa := [vR 41 r0, vR 51 (jcs D 251)]) okX8_take rfl rfl rfl rfl rfl rfl (jstp_virtual (sa := [vR 51 (jcs D 251)]) (st := []) (k := 0) rfl rfl sX8_take okX8_take g_1 (one41.k g_1) rfl rfl) w (fun v_20 h_18 _ _ w => ?_)
      refine jw_if_eq (tgt := 84) (pc' := 76) rfl rfl (fun c_21 => ?_) (fun c_21 => ?_)
      · replace w := w.1 c_21
        refine jw_aload_n (pc' := 85) rfl rfl ?_
        refine jw_ldcwS (pc' := 88) rfl rfl rfl rfl ?_
        refine jw_cI (st := []) (sa := [vR 41 r0, vR 51 (jcs D 274)]) okX8_take rfl rfl rfl rfl rfl rfl (jstp_virtual (sa := [vR 51 (jcs D 274)]) (st := []) (k := 0) rfl rfl sX8_take okX8_take g_1 (one41.k g_1) rfl rfl) w (fun v_24 h_22 _ _ w => ?_)
        refine jw_if_eq (tgt := 102) (pc' := 94) rfl rfl (fun c_25 => ?_) (fun c_25 => ?_)
        · replace w := w.1 c_25
          refine jw_aload_n (pc' := 103) rfl rfl ?_
          refine jw_ldcwS (pc' := 106) rfl rfl rfl rfl ?_
          refine jw_cI (st := []) (sa := [vR 41 r0, vR 51 (jcs D 277)]) okX8_take rfl rfl rfl rfl rfl rfl (jstp_virtual (sa := [vR 51 (jcs D 277)]) (st := []) (k := 0) rfl rfl sX8_take okX8_take g_1 (one41.k g_1) rfl rfl) w (fun v_28 h_26 _ _ w => ?_)
          refine jw_if_eq (tgt := 153) (pc' := 112) rfl rfl (fun c_29 => ?_) (fun c_29 => ?_)
          · replace w := w.1 c_29
            refine jw_aload_n (pc' := 154) rfl rfl ?_
            refine jw_ldcwS (pc' := 157) rfl rfl rfl rfl ?_
            refine jw_cI (st := []) (sa := [vR 41 r0, vR 51 (jcs D 279)]) okX8_take rfl rfl rfl rfl rfl rfl (jstp_virtual (sa := [vR 51 (jcs D 279)]) (st := []) (k := 0) rfl rfl sX8_take okX8_take g_1 (one41.k g_1) rfl rfl) w (fun v_32 h_30 _ _ w => ?_)
            refine jw_if_eq (tgt := 171) (pc' := 163) rfl rfl (fun c_33 => ?_) (fun c_33 => ?_)
            · replace w := w.1 c_33
              refine jw_aload_n (pc' := 172) rfl rfl ?_
              refine jw_ldcwS (pc' := 175) rfl rfl rfl rfl ?_
              refine jw_cI (st := []) (sa := [vR 41 r0, vR 51 (jcs D 280)]) okX8_take rfl rfl rfl rfl rfl rfl (jstp_virtual (sa := [vR 51 (jcs D 280)]) (st := []) (k := 0) rfl rfl sX8_take okX8_take g_1 (one41.k g_1) rfl rfl) w (fun v_36 h_34 _ _ w => ?_)
              refine jw_if_eq (tgt := 190) (pc' := 181) rfl rfl (fun c_37 => ?_) (fun c_37 => ?_)
              · replace w := w.1 c_37
                refine jw_aload_n (pc' := 191) rfl rfl ?_
                refine jw_ldcwS (pc' := 194) rfl rfl rfl rfl ?_
                refine jw_cI (st := []) (sa := [vR 41 r0, vR 51 (jcs D 281)]) okX8_take rfl rfl rfl rfl rfl rfl (jstp_virtual (sa := [vR 51 (jcs D 281)]) (st := []) (k := 0) rfl rfl sX8_take okX8_take g_1 (one41.k g_1) rfl rfl) w (fun v_40 h_38 _ _ w => ?_)
                refine jw_if_eq (tgt := 209) (pc' := 200) rfl rfl (fun c_41 => ?_) (fun c_41 => ?_)
                · replace w := w.1 c_41
                  refine jw_aload_n (pc' := 210) rfl rfl ?_
                  refine jw_ldcwS (pc' := 213) rfl rfl rfl rfl ?_
                  refine jw_cV (st := []) (sa := [vR 41 r0, vR 51 (jcs D 282)]) okX8_need rfl rfl rfl rfl rfl rfl (jstp_virtual (sa := [vR 51 (jcs D 282)]) (st := []) (k := 0) rfl rfl sX8_need okX8_need g_1 (one41.k g_1) rfl rfl) w (fun h_42 _ _ w => ?_)
                  refine jw_aload_n (pc' := 217) rfl rfl ?_
                  refine jw_aload_n (pc' := 218) rfl rfl ?_
                  refine jw_cV (st := []) (sa := [vR 41 r0, vR 47 (jfr h_4 191 r0)]) okX8_select rfl rfl rfl rfl rfl rfl (jstp_virtual (sa := [vR 47 (jfr h_4 191 r0)]) (st := []) (k := 0) rfl rfl sX8_select okX8_select g_1 (one41.k g_1) rfl rfl) w (fun h_45 _ _ w => ?_)
                  refine jw_gen (ls' := [none, some (vR 47 (jfr h_4 191 r0))]) (st' := []) (And.intro (Or.inl rfl) (trivial)) (trivial) ?_
                  exact w_X8_statement_221 w
                · replace w := w.2 c_41
                  refine jw_aload_n (pc' := 201) rfl rfl ?_
                  refine jw_bipush (pc' := 203) (x := (7 : Int32)) rfl rfl ?_
                  refine jw_putI' (pc' := 206) (F := 270) rfl rfl rfl (Or.inr rfl) (Or.inl rfl) rfl (rfl) (rfl) rfl g_6 (fun h_48 e_49 => ?_)
                  replace w := w h_48 e_49
                  refine jw_goto (pc' := 221) rfl rfl ?_
                  refine jw_gen (ls' := [none, some (vR 47 (jfr h_4 191 r0))]) (st' := []) (And.intro (Or.inl rfl) (trivial)) (trivial) ?_
                  exact w_X8_statement_221 w
              · replace w := w.2 c_37
                refine jw_aload_n (pc' := 182) rfl rfl ?_
                refine jw_bipush (pc' := 184) (x := (6 : Int32)) rfl rfl ?_
                refine jw_putI' (pc' := 187) (F := 270) rfl rfl rfl (Or.inr rfl) (Or.inl rfl) rfl (rfl) (rfl) rfl g_6 (fun h_50 e_51 => ?_)
                replace w := w h_50 e_51
                refine jw_goto (pc' := 221) rfl rfl ?_
                refine jw_gen (ls' := [none, some (vR 47 (jfr h_4 191 r0))]) (st' := []) (And.intro (Or.inl rfl) (trivial)) (trivial) ?_
                exact w_X8_statement_221 w
            · replace w := w.2 c_33
              refine jw_aload_n (pc' := 164) rfl rfl ?_
              refine jw_iconst (pc' := 165) (x := (5 : Int32)) rfl rfl ?_
              refine jw_putI' (pc' := 168) (F := 270) rfl rfl rfl (Or.inr rfl) (Or.inl rfl) rfl (rfl) (rfl) rfl g_6 (fun h_52 e_53 => ?_)
              replace w := w h_52 e_53
              refine jw_goto (pc' := 221) rfl rfl ?_
              refine jw_gen (ls' := [none, some (vR 47 (jfr h_4 191 r0))]) (st' := []) (And.intro (Or.inl rfl) (trivial)) (trivial) ?_
              exact w_X8_statement_221 w
          · replace w := w.2 c_29
            refine jw_aload_n (pc' := 113) rfl rfl ?_
            refine jw_iconst (pc' := 114) (x := (4 : Int32)) rfl rfl ?_
            refine jw_putI' (pc' := 117) (F := 270) rfl rfl rfl (Or.inr rfl) (Or.inl rfl) rfl (rfl) (rfl) rfl g_6 (fun h_54 e_55 => ?_)
            replace w := w h_54 e_55
            refine jw_aload_n (pc' := 118) rfl rfl ?_
            refine jw_ldcwS (pc' := 121) rfl rfl rfl rfl ?_
            refine jw_cV (st := []) (sa := [vR 41 r0, vR 51 (jcs D 278)]) okX8_need rfl rfl rfl rfl rfl rfl (jstp_virtual (sa := [vR 51 (jcs D 278)]) (st := []) (k := 0) rfl rfl sX8_need okX8_need g_1 (one41.k g_1) rfl rfl) w (fun h_56 _ _ w => ?_)
            refine jw_aload_n (pc' := 125) rfl rfl ?_
            refine jw_aload_n (pc' := 126) rfl rfl ?_
            refine jw_cR (st := [vR 47 (jfr h_4 191 r0)]) (sa := [vR 41 r0]) okX8_name rfl rfl rfl rfl rfl rfl (jstp_virtual (sa := []) (st := [vR 47 (jfr h_4 191 r0)]) (k := 0) rfl rfl sX8_name okX8_name g_1 (one41.k g_1) rfl rfl) w (fun v_61 h_59 _ _ _ w => ?_)
            refine jw_putR' (pc' := 132) (F := 271) rfl rfl rfl (Or.inr rfl) (Or.inl rfl) rfl rfl rfl g_6 (fun h_62 e_63 => ?_)
            replace w := w h_62 e_63
            refine jw_aload_n (pc' := 133) rfl rfl ?_
            refine jw_ldcwS (pc' := 136) rfl rfl rfl rfl ?_
            refine jw_cI (st := []) (sa := [vR 41 r0, vR 51 (jcs D 276)]) okX8_take rfl rfl rfl rfl rfl rfl (jstp_virtual (sa := [vR 51 (jcs D 276)]) (st := []) (k := 0) rfl rfl sX8_take okX8_take g_1 (one41.k g_1) rfl rfl) w (fun v_66 h_64 _ _ w => ?_)
            refine jw_if_eq (tgt := 221) (pc' := 142) rfl rfl (fun c_67 => ?_) (fun c_67 => ?_)
            · replace w := w.1 c_67
              refine jw_gen (ls' := [none, some (vR 47 (jfr h_4 191 r0))]) (st' := []) (And.intro (Or.inl rfl) (trivial)) (trivial) ?_
              exact w_X8_statement_221 w
            · replace w := w.2 c_67
              refine jw_aload_n (pc' := 143) rfl rfl ?_
              refine jw_aload_n (pc' := 144) rfl rfl ?_
              refine jw_cR (st := [vR 47 (jfr h_4 191 r0)]) (sa := [vR 41 r0]) okX8_expression rfl rfl rfl rfl rfl rfl (jstp_virtual (sa := []) (st := [vR 47 (jfr h_4 191 r0)]) (k := 0) rfl rfl sX8_expression okX8_expression g_1 (one41.k g_1) rfl rfl) w (fun v_70 h_68 _ _ _ w => ?_)
              refine jw_putR' (pc' := 150) (F := 282) rfl rfl rfl (Or.inr rfl) (Or.inl rfl) rfl rfl rfl g_6 (fun h_71 e_72 => ?_)
              replace w := w h_71 e_72
              refine jw_goto (pc' := 221) rfl rfl ?_
              refine jw_gen (ls' := [none, some (vR 47 (jfr h_4 191 r0))]) (st' := []) (And.intro (Or.inl rfl) (trivial)) (trivial) ?_
              exact w_X8_statement_221 w
        · replace w := w.2 c_25
          refine jw_aload_n (pc' := 95) rfl rfl ?_
          refine jw_aload_n (pc' := 96) rfl rfl ?_
          refine jw_cV (st := []) (sa := [vR 41 r0, vR 47 (jfr h_4 191 r0)]) okX8_update rfl rfl rfl rfl rfl rfl (jstp_virtual (sa := [vR 47 (jfr h_4 191 r0)]) (st := []) (k := 0) rfl rfl sX8_update okX8_update g_1 (one41.k g_1) rfl rfl) w (fun h_73 _ _ w => ?_)
          refine jw_goto (pc' := 221) rfl rfl ?_
          refine jw_gen (ls' := [none, some (vR 47 (jfr h_4 191 r0))]) (st' := []) (And.intro (Or.inl rfl) (trivial)) (trivial) ?_
          exact w_X8_statement_221 w
      · replace w := w.2 c_21
        refine jw_aload_n (pc' := 77) rfl rfl ?_
        refine jw_aload_n (pc' := 78) rfl rfl ?_
        refine jw_cV (st := []) (sa := [vR 41 r0, vR 47 (jfr h_4 191 r0)]) okX8_insert rfl rfl rfl rfl rfl rfl (jstp_virtual (sa := [vR 47 (jfr h_4 191 r0)]) (st := []) (k := 0) rfl rfl sX8_insert okX8_insert g_1 (one41.k g_1) rfl rfl) w (fun h_76 _ _ w => ?_)
        refine jw_goto (pc' := 221) rfl rfl ?_
        refine jw_gen (ls' := [none, some (vR 47 (jfr h_4 191 r0))]) (st' := []) (And.intro (Or.inl rfl) (trivial)) (trivial) ?_
        exact w_X8_statement_221 w
    · replace w := w.2 c_17
      refine jw_aload_n (pc' := 46) rfl rfl ?_
      refine jw_iconst (pc' := 47) (x := (1 : Int32)) rfl rfl ?_
      refine jw_putI' (pc' := 50) (F := 270) rfl rfl rfl (Or.inr rfl) (Or.inl rfl) rfl (rfl) (rfl) rfl g_6 (fun h_79 e_80 => ?_)
      replace w := w h_79 e_80
      refine jw_aload_n (pc' := 51) rfl rfl ?_
      refine jw_ldcS (pc' := 53) rfl rfl rfl rfl ?_
      refine jw_cV (st := []) (sa := [vR 41 r0, vR 51 (jcs D 238)]) okX8_need rfl rfl rfl rfl rfl rfl (jstp_virtual (sa := [vR 51 (jcs D 238)]) (st := []) (k := 0) rfl rfl sX8_need okX8_need g_1 (one41.k g_1) rfl rfl) w (fun h_81 _ _ w => ?_)
      refine jw_aload_n (pc' := 57) rfl rfl ?_
      refine jw_aload_n (pc' := 58) rfl rfl ?_
      refine jw_cR (st := [vR 47 (jfr h_4 191 r0)]) (sa := [vR 41 r0]) okX8_name rfl rfl rfl rfl rfl rfl (jstp_virtual (sa := []) (st := [vR 47 (jfr h_4 191 r0)]) (k := 0) rfl rfl sX8_name okX8_name g_1 (one41.k g_1) rfl rfl) w (fun v_86 h_84 _ _ _ w => ?_)
      refine jw_putR' (pc' := 64) (F := 271) rfl rfl rfl (Or.inr rfl) (Or.inl rfl) rfl rfl rfl g_6 (fun h_87 e_88 => ?_)
      replace w := w h_87 e_88
      refine jw_goto (pc' := 221) rfl rfl ?_
      refine jw_gen (ls' := [none, some (vR 47 (jfr h_4 191 r0))]) (st' := []) (And.intro (Or.inl rfl) (trivial)) (trivial) ?_
      exact w_X8_statement_221 w
  · replace w := w.2 c_13
    refine jw_aload_n (pc' := 29) rfl rfl ?_
    refine jw_aload_n (pc' := 30) rfl rfl ?_
    refine jw_cV (st := []) (sa := [vR 41 r0, vR 47 (jfr h_4 191 r0)]) okX8_create rfl rfl rfl rfl rfl rfl (jstp_virtual (sa := [vR 47 (jfr h_4 191 r0)]) (st := []) (k := 0) rfl rfl sX8_create okX8_create g_1 (one41.k g_1) rfl rfl) w (fun h_89 _ _ w => ?_)
    refine jw_goto (pc' := 221) rfl rfl ?_
    refine jw_gen (ls' := [none, some (vR 47 (jfr h_4 191 r0))]) (st' := []) (And.intro (Or.inl rfl) (trivial)) (trivial) ?_
    exact w_X8_statement_221 w
def T_X8_statement (D : JD) (d : Nat) (Q : JO → JH → Prop) (r0 : Nat) (h : JH) : Prop := W_X8_statement_0 D d Q r0 h
theorem t_X8_statement {D : JD} {d : Nat} {Q : JO → JH → Prop} {r0 : Nat} {h : JH} (w : T_X8_statement D d Q r0 h) : cX8_statement D (d + 1) r0 h Q := by
  unfold T_X8_statement at w
  unfold cX8_statement
  exact w_X8_statement_0 w
def W_X8_create_254 (D : JD) (d : Nat) (Q : JO → JH → Prop) (K26 : Nat → Nat → JH → Prop) (K140 : Nat → Nat → Int32 → JH → Prop) (r0 : Nat) (r1 : Nat) (x2 : Int32) (q0 : Nat) (s1 : Int32) (s2 : Int32) (s3 : Int32) (h : JH) : Prop :=
  q0 ≠ 0 ∧ jin s1 (jln h q0) ∧ jbo (s2 ||| s3) ∧ ∀ h_4 : JH, h_4 = wai h q0 (ixn s1) (s2 ||| s3) → (K140 r0 r1 x2 h_4)
theorem w_X8_create_254 {D : JD} {d : Nat} {Q : JO → JH → Prop} {K26 : Nat → Nat → JH → Prop} {K140 : Nat → Nat → Int32 → JH → Prop} {r0 : Nat} {r1 : Nat} {x2 : Int32} {q0 : Nat} {s1 : Int32} {s2 : Int32} {s3 : Int32} {h : JH} (hK26 : ∀ (r0 : Nat) (r1 : Nat) (h : JH), K26 r0 r1 h → JW D (d + 1) mX8_create 26 [some (vR 41 r0), some (vR 47 r1), none, none, none] [] h Q) (hK140 : ∀ (r0 : Nat) (r1 : Nat) (x2 : Int32) (h : JH), K140 r0 r1 x2 h → JW D (d + 1) mX8_create 140 [some (vR 41 r0), some (vR 47 r1), some (vI x2), none, none] [] h Q) (w : W_X8_create_254 D d Q K26 K140 r0 r1 x2 q0 s1 s2 s3 h) : JW D (d + 1) mX8_create 254 [some (vR 41 r0), some (vR 47 r1), some (vI x2), none, none] [vI s3, vI s2, vI s1, vR 201 q0] h Q := by
  unfold W_X8_create_254 at w
  refine jw_ior (pc' := 255) rfl ?_
  obtain ⟨g_1, w⟩ := w
  obtain ⟨g_2, w⟩ := w
  obtain ⟨g_3, w⟩ := w
  refine jw_zast' (pc' := 256) rfl rfl rfl rfl rfl (g_3.nr) g_1 g_2 (fun h_4 e_5 => ?_)
  replace w := w h_4 e_5
  refine jw_goto (pc' := 140) rfl rfl ?_
  exact hK140 _ _ _ _ w
def W_X8_create_235 (D : JD) (d : Nat) (Q : JO → JH → Prop) (K26 : Nat → Nat → JH → Prop) (K140 : Nat → Nat → Int32 → JH → Prop) (r0 : Nat) (r1 : Nat) (x2 : Int32) (x4 : Int32) (q0 : Nat) (s1 : Int32) (s2 : Int32) (s3 : Int32) (h : JH) : Prop :=
  q0 ≠ 0 ∧ jin s1 (jln h q0) ∧ jbo (s2 ||| s3) ∧ ∀ h_4 : JH, h_4 = wai h q0 (ixn s1) (s2 ||| s3) → (r1 ≠ 0 ∧ ((jfr h_4 276 r1) ≠ 0 ∧ jin x2 (jln h_4 (jfr h_4 276 r1)) ∧ ((¬ x4 = 0 → W_X8_create_254 D d Q K26 K140 r0 r1 x2 (jfr h_4 276 r1) x2 (jai h_4 (jfr h_4 276 r1) (ixn x2)) (0 : Int32) h_4) ∧ (x4 = 0 → W_X8_create_254 D d Q K26 K140 r0 r1 x2 (jfr h_4 276 r1) x2 (jai h_4 (jfr h_4 276 r1) (ixn x2)) (1 : Int32) h_4))))
theorem w_X8_create_235 {D : JD} {d : Nat} {Q : JO → JH → Prop} {K26 : Nat → Nat → JH → Prop} {K140 : Nat → Nat → Int32 → JH → Prop} {r0 : Nat} {r1 : Nat} {x2 : Int32} {x4 : Int32} {q0 : Nat} {s1 : Int32} {s2 : Int32} {s3 : Int32} {h : JH} (hK26 : ∀ (r0 : Nat) (r1 : Nat) (h : JH), K26 r0 r1 h → JW D (d + 1) mX8_create 26 [some (vR 41 r0), some (vR 47 r1), none, none, none] [] h Q) (hK140 : ∀ (r0 : Nat) (r1 : Nat) (x2 : Int32) (h : JH), K140 r0 r1 x2 h → JW D (d + 1) mX8_create 140 [some (vR 41 r0), some (vR 47 r1), some (vI x2), none, none] [] h Q) (w : W_X8_create_235 D d Q K26 K140 r0 r1 x2 x4 q0 s1 s2 s3 h) : JW D (d + 1) mX8_create 235 [some (vR 41 r0), some (vR 47 r1), some (vI x2), none, some (vI x4)] [vI s3, vI s2, vI s1, vR 200 q0] h Q := by
  unfold W_X8_create_235 at w
  refine jw_ior (pc' := 236) rfl ?_
  obtain ⟨g_1, w⟩ := w
  obtain ⟨g_2, w⟩ := w
  obtain ⟨g_3, w⟩ := w
  refine jw_zast' (pc' := 237) rfl rfl rfl rfl rfl (g_3.nr) g_1 g_2 (fun h_4 e_5 => ?_)
  replace w := w h_4 e_5
  refine jw_aload_n (pc' := 238) rfl rfl ?_
  obtain ⟨g_6, w⟩ := w
  refine jw_getR (pc' := 241) (F := 276) (t' := 201) rfl rfl rfl rfl rfl g_6 ?_
  refine jw_iload_n (pc' := 242) rfl rfl ?_
  refine jw_dup2 (pc' := 243) rfl rfl rfl ?_
  obtain ⟨g_7, w⟩ := w
  obtain ⟨g_8, w⟩ := w
  refine jw_zald (pc' := 244) rfl rfl rfl rfl g_7 g_8.ix g_8.2 ?_
  refine jw_iload (pc' := 246) rfl rfl ?_
  refine jw_if_ne (tgt := 253) (pc' := 249) rfl rfl (fun c_9 => ?_) (fun c_9 => ?_)
  · replace w := w.1 c_9
    refine jw_iconst (pc' := 254) (x := (0 : Int32)) rfl rfl ?_
    refine jw_gen (ls' := [some (vR 41 r0), some (vR 47 r1), some (vI x2), none, none]) (st' := [vI (0 : Int32), vI (jai h_4 (jfr h_4 276 r1) (ixn x2)), vI x2, vR 201 (jfr h_4 276 r1)]) (And.intro (Or.inl rfl) (And.intro (Or.inl rfl) (And.intro (Or.inl rfl) (trivial)))) (And.intro (Or.inl rfl) (And.intro (Or.inl rfl) (And.intro (Or.inl rfl) (And.intro (Or.inl rfl) (trivial))))) ?_
    exact w_X8_create_254 hK26 hK140 w
  · replace w := w.2 c_9
    refine jw_iconst (pc' := 250) (x := (1 : Int32)) rfl rfl ?_
    refine jw_goto (pc' := 254) rfl rfl ?_
    refine jw_gen (ls' := [some (vR 41 r0), some (vR 47 r1), some (vI x2), none, none]) (st' := [vI (1 : Int32), vI (jai h_4 (jfr h_4 276 r1) (ixn x2)), vI x2, vR 201 (jfr h_4 276 r1)]) (And.intro (Or.inl rfl) (And.intro (Or.inl rfl) (And.intro (Or.inl rfl) (trivial)))) (And.intro (Or.inl rfl) (And.intro (Or.inl rfl) (And.intro (Or.inl rfl) (And.intro (Or.inl rfl) (trivial))))) ?_
    exact w_X8_create_254 hK26 hK140 w
def W_X8_create_230 (D : JD) (d : Nat) (Q : JO → JH → Prop) (K26 : Nat → Nat → JH → Prop) (K140 : Nat → Nat → Int32 → JH → Prop) (r0 : Nat) (r1 : Nat) (x2 : Int32) (x4 : Int32) (q0 : Nat) (s1 : Int32) (s2 : Int32) (h : JH) : Prop :=
  W_X8_create_235 D d Q K26 K140 r0 r1 x2 x4 q0 s1 s2 (1 : Int32) h
theorem w_X8_create_230 {D : JD} {d : Nat} {Q : JO → JH → Prop} {K26 : Nat → Nat → JH → Prop} {K140 : Nat → Nat → Int32 → JH → Prop} {r0 : Nat} {r1 : Nat} {x2 : Int32} {x4 : Int32} {q0 : Nat} {s1 : Int32} {s2 : Int32} {h : JH} (hK26 : ∀ (r0 : Nat) (r1 : Nat) (h : JH), K26 r0 r1 h → JW D (d + 1) mX8_create 26 [some (vR 41 r0), some (vR 47 r1), none, none, none] [] h Q) (hK140 : ∀ (r0 : Nat) (r1 : Nat) (x2 : Int32) (h : JH), K140 r0 r1 x2 h → JW D (d + 1) mX8_create 140 [some (vR 41 r0), some (vR 47 r1), some (vI x2), none, none] [] h Q) (w : W_X8_create_230 D d Q K26 K140 r0 r1 x2 x4 q0 s1 s2 h) : JW D (d + 1) mX8_create 230 [some (vR 41 r0), some (vR 47 r1), some (vI x2), none, some (vI x4)] [vI s2, vI s1, vR 200 q0] h Q := by
  unfold W_X8_create_230 at w
  refine jw_iconst (pc' := 231) (x := (1 : Int32)) rfl rfl ?_
  refine jw_goto (pc' := 235) rfl rfl ?_
  exact w_X8_create_235 hK26 hK140 w
def W_X8_create_214 (D : JD) (d : Nat) (Q : JO → JH → Prop) (K26 : Nat → Nat → JH → Prop) (K140 : Nat → Nat → Int32 → JH → Prop) (r0 : Nat) (r1 : Nat) (x2 : Int32) (x3 : Int32) (x4 : Int32) (h : JH) : Prop :=
  r1 ≠ 0 ∧ ((jfr h 275 r1) ≠ 0 ∧ jin x2 (jln h (jfr h 275 r1)) ∧ ((¬ x3 = 0 → W_X8_create_230 D d Q K26 K140 r0 r1 x2 x4 (jfr h 275 r1) x2 (jai h (jfr h 275 r1) (ixn x2)) h) ∧ (x3 = 0 → (x4 = 0 → W_X8_create_235 D d Q K26 K140 r0 r1 x2 x4 (jfr h 275 r1) x2 (jai h (jfr h 275 r1) (ixn x2)) (0 : Int32) h) ∧ (¬ x4 = 0 → W_X8_create_230 D d Q K26 K140 r0 r1 x2 x4 (jfr h 275 r1) x2 (jai h (jfr h 275 r1) (ixn x2)) h))))
theorem w_X8_create_214 {D : JD} {d : Nat} {Q : JO → JH → Prop} {K26 : Nat → Nat → JH → Prop} {K140 : Nat → Nat → Int32 → JH → Prop} {r0 : Nat} {r1 : Nat} {x2 : Int32} {x3 : Int32} {x4 : Int32} {h : JH} (hK26 : ∀ (r0 : Nat) (r1 : Nat) (h : JH), K26 r0 r1 h → JW D (d + 1) mX8_create 26 [some (vR 41 r0), some (vR 47 r1), none, none, none] [] h Q) (hK140 : ∀ (r0 : Nat) (r1 : Nat) (x2 : Int32) (h : JH), K140 r0 r1 x2 h → JW D (d + 1) mX8_create 140 [some (vR 41 r0), some (vR 47 r1), some (vI x2), none, none] [] h Q) (w : W_X8_create_214 D d Q K26 K140 r0 r1 x2 x3 x4 h) : JW D (d + 1) mX8_create 214 [some (vR 41 r0), some (vR 47 r1), some (vI x2), some (vI x3), some (vI x4)] [] h Q := by
  unfold W_X8_create_214 at w
  refine jw_aload_n (pc' := 215) rfl rfl ?_
  obtain ⟨g_1, w⟩ := w
  refine jw_getR (pc' := 218) (F := 275) (t' := 200) rfl rfl rfl rfl rfl g_1 ?_
  refine jw_iload_n (pc' := 219) rfl rfl ?_
  refine jw_dup2 (pc' := 220) rfl rfl rfl ?_
  obtain ⟨g_2, w⟩ := w
  obtain ⟨g_3, w⟩ := w
  refine jw_zald (pc' := 221) rfl rfl rfl rfl g_2 g_3.ix g_3.2 ?_
  refine jw_iload_n (pc' := 222) rfl rfl ?_
  refine jw_if_ne (tgt := 230) (pc' := 225) rfl rfl (fun c_4 => ?_) (fun c_4 => ?_)
  · replace w := w.1 c_4
    refine jw_gen (ls' := [some (vR 41 r0), some (vR 47 r1), some (vI x2), none, some (vI x4)]) (st' := [vI (jai h (jfr h 275 r1) (ixn x2)), vI x2, vR 200 (jfr h 275 r1)]) (And.intro (Or.inl rfl) (And.intro (Or.inl rfl) (And.intro (Or.inl rfl) (And.intro (Or.inl rfl) (trivial))))) (And.intro (Or.inl rfl) (And.intro (Or.inl rfl) (And.intro (Or.inl rfl) (trivial)))) ?_
    exact w_X8_create_230 hK26 hK140 w
  · replace w := w.2 c_4
    refine jw_iload (pc' := 227) rfl rfl ?_
    refine jw_if_eq (tgt := 234) (pc' := 230) rfl rfl (fun c_5 => ?_) (fun c_5 => ?_)
    · replace w := w.1 c_5
      refine jw_iconst (pc' := 235) (x := (0 : Int32)) rfl rfl ?_
      refine jw_gen (ls' := [some (vR 41 r0), some (vR 47 r1), some (vI x2), none, some (vI x4)]) (st' := [vI (0 : Int32), vI (jai h (jfr h 275 r1) (ixn x2)), vI x2, vR 200 (jfr h 275 r1)]) (And.intro (Or.inl rfl) (And.intro (Or.inl rfl) (And.intro (Or.inl rfl) (And.intro (Or.inl rfl) (trivial))))) (And.intro (Or.inl rfl) (And.intro (Or.inl rfl) (And.intro (Or.inl rfl) (And.intro (Or.inl rfl) (trivial))))) ?_
      exact w_X8_create_235 hK26 hK140 w
    · replace w := w.2 c_5
      refine jw_gen (ls' := [some (vR 41 r0), some (vR 47 r1), some (vI x2), none, some (vI x4)]) (st' := [vI (jai h (jfr h 275 r1) (ixn x2)), vI x2, vR 200 (jfr h 275 r1)]) (And.intro (Or.inl rfl) (And.intro (Or.inl rfl) (And.intro (Or.inl rfl) (And.intro (Or.inl rfl) (trivial))))) (And.intro (Or.inl rfl) (And.intro (Or.inl rfl) (And.intro (Or.inl rfl) (trivial)))) ?_
      exact w_X8_create_230 hK26 hK140 w
def W_X8_create_202 (D : JD) (d : Nat) (Q : JO → JH → Prop) (K26 : Nat → Nat → JH → Prop) (K140 : Nat → Nat → Int32 → JH → Prop) (r0 : Nat) (r1 : Nat) (x2 : Int32) (x3 : Int32) (x4 : Int32) (h : JH) : Prop :=
  (x4 = 0 → W_X8_create_214 D d Q K26 K140 r0 r1 x2 x3 x4 h) ∧ (¬ x4 = 0 → r0 ≠ 0 ∧ (cX8_need D d r0 (jcs D 247) h (pV D h (fun h_3 => W_X8_create_214 D d Q K26 K140 r0 r1 x2 x3 x4 h_3) (jth Q))))
theorem w_X8_create_202 {D : JD} {d : Nat} {Q : JO → JH → Prop} {K26 : Nat → Nat → JH → Prop} {K140 : Nat → Nat → Int32 → JH → Prop} {r0 : Nat} {r1 : Nat} {x2 : Int32} {x3 : Int32} {x4 : Int32} {h : JH} (hK26 : ∀ (r0 : Nat) (r1 : Nat) (h : JH), K26 r0 r1 h → JW D (d + 1) mX8_create 26 [some (vR 41 r0), some (vR 47 r1), none, none, none] [] h Q) (hK140 : ∀ (r0 : Nat) (r1 : Nat) (x2 : Int32) (h : JH), K140 r0 r1 x2 h → JW D (d + 1) mX8_create 140 [some (vR 41 r0), some (vR 47 r1), some (vI x2), none, none] [] h Q) (w : W_X8_create_202 D d Q K26 K140 r0 r1 x2 x3 x4 h) : JW D (d + 1) mX8_create 202 [some (vR 41 r0), some (vR 47 r1), some (vI x2), some (vI x3), some (vI x4)] [] h Q := by
  unfold W_X8_create_202 at w
  refine jw_iload (pc' := 204) rfl rfl ?_
  refine jw_if_eq (tgt := 214) (pc' := 207) rfl rfl (fun c_1 => ?_) (fun c_1 => ?_)
  · replace w := w.1 c_1
    exact w_X8_create_214 hK26 hK140 w
  · replace w := w.2 c_1
    refine jw_aload_n (pc' := 208) rfl rfl ?_
    refine jw_ldcwS (pc' := 211) rfl rfl rfl rfl ?_
    obtain ⟨g_2, w⟩ := w
    refine jw_cV (st := []) (sa := [vR 41 r0, vR 51 (jcs D 247)]) okX8_need rfl rfl rfl rfl rfl rfl (jstp_virtual (sa := [vR 51 (jcs D 247)]) (st := []) (k := 0) rfl rfl sX8_need okX8_need g_2 (one41.k g_2) rfl rfl) w (fun h_3 _ _ w => ?_)
    exact w_X8_create_214 hK26 hK140 w
def W_X8_create_170 (D : JD) (d : Nat) (Q : JO → JH → Prop) (K26 : Nat → Nat → JH → Prop) (K140 : Nat → Nat → Int32 → JH → Prop) (r0 : Nat) (r1 : Nat) (x2 : Int32) (h : JH) : Prop :=
  r0 ≠ 0 ∧ (cX8_is D d r0 (jcs D 245) h (pI D h (fun v_4 h_2 => cX8_is D d r0 (jcs D 243) h_2 (pI D h_2 (fun v_7 h_5 => cX8_next D d r0 h_5 (pV D h_5 (fun h_8 => (v_4 = 0 → W_X8_create_202 D d Q K26 K140 r0 r1 x2 v_4 v_7 h_8) ∧ (¬ v_4 = 0 → cX8_need D d r0 (jcs D 246) h_8 (pV D h_8 (fun h_12 => W_X8_create_202 D d Q K26 K140 r0 r1 x2 v_4 v_7 h_12) (jth Q)))) (jth Q))) (jth Q))) (jth Q)))
theorem w_X8_create_170 {D : JD} {d : Nat} {Q : JO → JH → Prop} {K26 : Nat → Nat → JH → Prop} {K140 : Nat → Nat → Int32 → JH → Prop} {r0 : Nat} {r1 : Nat} {x2 : Int32} {h : JH} (hK26 : ∀ (r0 : Nat) (r1 : Nat) (h : JH), K26 r0 r1 h → JW D (d + 1) mX8_create 26 [some (vR 41 r0), some (vR 47 r1), none, none, none] [] h Q) (hK140 : ∀ (r0 : Nat) (r1 : Nat) (x2 : Int32) (h : JH), K140 r0 r1 x2 h → JW D (d + 1) mX8_create 140 [some (vR 41 r0), some (vR 47 r1), some (vI x2), none, none] [] h Q) (w : W_X8_create_170 D d Q K26 K140 r0 r1 x2 h) : JW D (d + 1) mX8_create 170 [some (vR 41 r0), some (vR 47 r1), some (vI x2), none, none] [] h Q := by
  unfold W_X8_create_170 at w
  refine jw_aload_n (pc' := 171) rfl rfl ?_
  refine jw_ldcwS (pc' := 174) rfl rfl rfl rfl ?_
  obtain ⟨g_1, w⟩ := w
  refine jw_cI (st := []) (sa := [vR 41 r0, vR 51 (jcs D 245)]) okX8_is rfl rfl rfl rfl rfl rfl (jstp_virtual (sa := [vR 51 (jcs D 245)]) (st := []) (k := 0) rfl rfl sX8_is okX8_is g_1 (one41.k g_1) rfl rfl) w (fun v_4 h_2 _ _ w => ?_)
  refine jw_istore_n (pc' := 178) (ls' := [some (vR 41 r0), some (vR 47 r1), some (vI x2), some (vI v_4), none]) rfl (by decide) rfl ?_
  refine jw_aload_n (pc' := 179) rfl rfl ?_
  refine jw_ldcwS (pc' := 182) rfl rfl rfl rfl ?_
  refine jw_cI (st := []) (sa := [vR 41 r0, vR 51 (jcs D 243)]) okX8_is rfl rfl rfl rfl rfl rfl (jstp_virtual (sa := [vR 51 (jcs D 243)]) (st := []) (k := 0) rfl rfl sX8_is okX8_is g_1 (one41.k g_1) rfl rfl) w (fun v_7 h_5 _ _ w => ?_)
  refine jw_istore (pc' := 187) (ls' := [some (vR 41 r0), some (vR 47 r1), some (vI x2), some (vI v_4), some (vI v_7)]) rfl (by decide) rfl ?_
  refine jw_aload_n (pc' := 188) rfl rfl ?_
  refine jw_cV (st := []) (sa := [vR 41 r0]) okX8_next rfl rfl rfl rfl rfl rfl (jstp_virtual (sa := []) (st := []) (k := 0) rfl rfl sX8_next okX8_next g_1 (one41.k g_1) rfl rfl) w (fun h_8 _ _ w => ?_)
  refine jw_iload_n (pc' := 192) rfl rfl ?_
  refine jw_if_eq (tgt := 202) (pc' := 195) rfl rfl (fun c_11 => ?_) (fun c_11 => ?_)
  · replace w := w.1 c_11
    exact w_X8_create_202 hK26 hK140 w
  · replace w := w.2 c_11
    refine jw_aload_n (pc' := 196) rfl rfl ?_
    refine jw_ldcwS (pc' := 199) rfl rfl rfl rfl ?_
    refine jw_cV (st := []) (sa := [vR 41 r0, vR 51 (jcs D 246)]) okX8_need rfl rfl rfl rfl rfl rfl (jstp_virtual (sa := [vR 51 (jcs D 246)]) (st := []) (k := 0) rfl rfl sX8_need okX8_need g_1 (one41.k g_1) rfl rfl) w (fun h_12 _ _ w => ?_)
    exact w_X8_create_202 hK26 hK140 w
def W_X8_create_140 (D : JD) (d : Nat) (Q : JO → JH → Prop) (K26 : Nat → Nat → JH → Prop) (K140 : Nat → Nat → Int32 → JH → Prop) (r0 : Nat) (r1 : Nat) (x2 : Int32) (h : JH) : Prop :=
  r0 ≠ 0 ∧ (cX8_is D d r0 (jcs D 243) h (pI D h (fun v_4 h_2 => (¬ v_4 = 0 → W_X8_create_170 D d Q K26 K140 r0 r1 x2 h_2) ∧ (v_4 = 0 → cX8_is D d r0 (jcs D 244) h_2 (pI D h_2 (fun v_8 h_6 => (¬ v_8 = 0 → W_X8_create_170 D d Q K26 K140 r0 r1 x2 h_6) ∧ (v_8 = 0 → cX8_is D d r0 (jcs D 245) h_6 (pI D h_6 (fun v_12 h_10 => (v_12 = 0 → r1 ≠ 0 ∧ (∀ h_15 : JH, h_15 = wfi h_10 273 r1 ((jfi h_10 273 r1) + (1 : Int32)) → (cX8_take D d r0 (jcs D 248) h_15 (pI D h_15 (fun v_19 h_17 => (¬ v_19 = 0 → K26 r0 r1 h_17) ∧ (v_19 = 0 → cX8_need D d r0 (jcs D 249) h_17 (pV D h_17 (fun h_21 => Q (.inl none) h_21) (jth Q)))) (jth Q))))) ∧ (¬ v_12 = 0 → W_X8_create_170 D d Q K26 K140 r0 r1 x2 h_10)) (jth Q)))) (jth Q)))) (jth Q)))
theorem w_X8_create_140 {D : JD} {d : Nat} {Q : JO → JH → Prop} {K26 : Nat → Nat → JH → Prop} {K140 : Nat → Nat → Int32 → JH → Prop} {r0 : Nat} {r1 : Nat} {x2 : Int32} {h : JH} (hK26 : ∀ (r0 : Nat) (r1 : Nat) (h : JH), K26 r0 r1 h → JW D (d + 1) mX8_create 26 [some (vR 41 r0), some (vR 47 r1), none, none, none] [] h Q) (hK140 : ∀ (r0 : Nat) (r1 : Nat) (x2 : Int32) (h : JH), K140 r0 r1 x2 h → JW D (d + 1) mX8_create 140 [some (vR 41 r0), some (vR 47 r1), some (vI x2), none, none] [] h Q) (w : W_X8_create_140 D d Q K26 K140 r0 r1 x2 h) : JW D (d + 1) mX8_create 140 [some (vR 41 r0), some (vR 47 r1), some (vI x2), none, none] [] h Q := by
  unfold W_X8_create_140 at w
  refine jw_aload_n (pc' := 141) rfl rfl ?_
  refine jw_ldcwS (pc' := 144) rfl rfl rfl rfl ?_
  obtain ⟨g_1, w⟩ := w
  refine jw_cI (st := []) (sa := [vR 41 r0, vR 51 (jcs D 243)]) okX8_is rfl rfl rfl rfl rfl rfl (jstp_virtual (sa := [vR 51 (jcs D 243)]) (st := []) (k := 0) rfl rfl sX8_is okX8_is g_1 (one41.k g_1) rfl rfl) w (fun v_4 h_2 _ _ w => ?_)
  refine jw_if_ne (tgt := 170) (pc' := 150) rfl rfl (fun c_5 => ?_) (fun c_5 => ?_)
  · replace w := w.1 c_5
    exact w_X8_create_170 hK26 hK140 w
  · replace w := w.2 c_5
    refine jw_aload_n (pc' := 151) rfl rfl ?_
    refine jw_ldcwS (pc' := 154) rfl rfl rfl rfl ?_
    refine jw_cI (st := []) (sa := [vR 41 r0, vR 51 (jcs D 244)]) okX8_is rfl rfl rfl rfl rfl rfl (jstp_virtual (sa := [vR 51 (jcs D 244)]) (st := []) (k := 0) rfl rfl sX8_is okX8_is g_1 (one41.k g_1) rfl rfl) w (fun v_8 h_6 _ _ w => ?_)
    refine jw_if_ne (tgt := 170) (pc' := 160) rfl rfl (fun c_9 => ?_) (fun c_9 => ?_)
    · replace w := w.1 c_9
      exact w_X8_create_170 hK26 hK140 w
    · replace w := w.2 c_9
      refine jw_aload_n (pc' := 161) rfl rfl ?_
      refine jw_ldcwS (pc' := 164) rfl rfl rfl rfl ?_
      refine jw_cI (st := []) (sa := [vR 41 r0, vR 51 (jcs D 245)]) okX8_is rfl rfl rfl rfl rfl rfl (jstp_virtual (sa := [vR 51 (jcs D 245)]) (st := []) (k := 0) rfl rfl sX8_is okX8_is g_1 (one41.k g_1) rfl rfl) w (fun v_12 h_10 _ _ w => ?_)
      refine jw_if_eq (tgt := 259) (pc' := 170) rfl rfl (fun c_13 => ?_) (fun c_13 => ?_)
      · replace w := w.1 c_13
        refine jw_aload_n (pc' := 260) rfl rfl ?_
        refine jw_dup (pc' := 261) rfl rfl ?_
        obtain ⟨g_14, w⟩ := w
        refine jw_getI (pc' := 264) (F := 273) rfl rfl rfl rfl g_14 ?_
        refine jw_iconst (pc' := 265) (x := (1 : Int32)) rfl rfl ?_
        refine jw_iadd (pc' := 266) rfl ?_
        refine jw_putI' (pc' := 269) (F := 273) rfl rfl rfl (Or.inr rfl) (Or.inl rfl) rfl (rfl) (rfl) rfl g_14 (fun h_15 e_16 => ?_)
        replace w := w h_15 e_16
        refine jw_aload_n (pc' := 270) rfl rfl ?_
        refine jw_ldcwS (pc' := 273) rfl rfl rfl rfl ?_
        refine jw_cI (st := []) (sa := [vR 41 r0, vR 51 (jcs D 248)]) okX8_take rfl rfl rfl rfl rfl rfl (jstp_virtual (sa := [vR 51 (jcs D 248)]) (st := []) (k := 0) rfl rfl sX8_take okX8_take g_1 (one41.k g_1) rfl rfl) w (fun v_19 h_17 _ _ w => ?_)
        refine jw_if_ne (tgt := 26) (pc' := 279) rfl rfl (fun c_20 => ?_) (fun c_20 => ?_)
        · replace w := w.1 c_20
          refine jw_gen (ls' := [some (vR 41 r0), some (vR 47 r1), none, none, none]) (st' := []) (And.intro (Or.inl rfl) (And.intro (Or.inl rfl) (trivial))) (trivial) ?_
          exact hK26 _ _ _ w
        · replace w := w.2 c_20
          refine jw_aload_n (pc' := 280) rfl rfl ?_
          refine jw_ldcwS (pc' := 283) rfl rfl rfl rfl ?_
          refine jw_cV (st := []) (sa := [vR 41 r0, vR 51 (jcs D 249)]) okX8_need rfl rfl rfl rfl rfl rfl (jstp_virtual (sa := [vR 51 (jcs D 249)]) (st := []) (k := 0) rfl rfl sX8_need okX8_need g_1 (one41.k g_1) rfl rfl) w (fun h_21 _ _ w => ?_)
          exact jw_return rfl rfl w
      · replace w := w.2 c_13
        exact w_X8_create_170 hK26 hK140 w
def L_X8_create_140 (D : JD) (d : Nat) (Q : JO → JH → Prop) (K26 : Nat → Nat → JH → Prop) : Nat → Nat → Nat → Int32 → JH → Prop
  | 0 => fun _ _ _ _ => False
  | n + 1 => fun r0 r1 x2 h => W_X8_create_140 D d Q K26 (L_X8_create_140 D d Q K26 n) r0 r1 x2 h
theorem l_X8_create_140 {D : JD} {d : Nat} {Q : JO → JH → Prop} {K26 : Nat → Nat → JH → Prop} (hK26 : ∀ (r0 : Nat) (r1 : Nat) (h : JH), K26 r0 r1 h → JW D (d + 1) mX8_create 26 [some (vR 41 r0), some (vR 47 r1), none, none, none] [] h Q) : ∀ (n : Nat) (r0 : Nat) (r1 : Nat) (x2 : Int32) (h : JH), L_X8_create_140 D d Q K26 n r0 r1 x2 h → JW D (d + 1) mX8_create 140 [some (vR 41 r0), some (vR 47 r1), some (vI x2), none, none] [] h Q := by
  intro n
  induction n with
  | zero => intro _ _ _ _ w; exact w.elim
  | succ n ih => intro _ _ _ h w; exact w_X8_create_140 hK26 ih w
def W_X8_create_133 (D : JD) (d : Nat) (Q : JO → JH → Prop) (K26 : Nat → Nat → JH → Prop) (r0 : Nat) (r1 : Nat) (x2 : Int32) (q0 : Nat) (s1 : Int32) (h : JH) : Prop :=
  q0 ≠ 0 ∧ (cX8_can D d q0 s1 h (pV D h (fun h_2 => r0 ≠ 0 ∧ (cX8_next D d r0 h_2 (pV D h_2 (fun h_6 => ∃ n, L_X8_create_140 D d Q K26 n r0 r1 x2 h_6) (jth Q)))) (jth Q)))
theorem w_X8_create_133 {D : JD} {d : Nat} {Q : JO → JH → Prop} {K26 : Nat → Nat → JH → Prop} {r0 : Nat} {r1 : Nat} {x2 : Int32} {q0 : Nat} {s1 : Int32} {h : JH} (hK26 : ∀ (r0 : Nat) (r1 : Nat) (h : JH), K26 r0 r1 h → JW D (d + 1) mX8_create 26 [some (vR 41 r0), some (vR 47 r1), none, none, none] [] h Q) (w : W_X8_create_133 D d Q K26 r0 r1 x2 q0 s1 h) : JW D (d + 1) mX8_create 133 [some (vR 41 r0), some (vR 47 r1), some (vI x2), none, none] [vI s1, vR 41 q0] h Q := by
  unfold W_X8_create_133 at w
  obtain ⟨g_1, w⟩ := w
  refine jw_cV (st := []) (sa := [vR 41 q0, vI s1]) okX8_can rfl rfl rfl rfl rfl rfl (jstp_virtual (sa := [vI s1]) (st := []) (k := 0) rfl rfl sX8_can okX8_can g_1 (one41.k g_1) rfl rfl) w (fun h_2 _ _ w => ?_)
  refine jw_aload_n (pc' := 137) rfl rfl ?_
  obtain ⟨g_5, w⟩ := w
  refine jw_cV (st := []) (sa := [vR 41 r0]) okX8_next rfl rfl rfl rfl rfl rfl (jstp_virtual (sa := []) (st := []) (k := 0) rfl rfl sX8_next okX8_next g_5 (one41.k g_5) rfl rfl) w (fun h_6 _ _ w => ?_)
  obtain ⟨n, w⟩ := w
  exact l_X8_create_140 hK26 n _ _ _ _ w
def W_X8_create_128 (D : JD) (d : Nat) (Q : JO → JH → Prop) (K26 : Nat → Nat → JH → Prop) (r0 : Nat) (r1 : Nat) (x2 : Int32) (q0 : Nat) (h : JH) : Prop :=
  W_X8_create_133 D d Q K26 r0 r1 x2 q0 (1 : Int32) h
theorem w_X8_create_128 {D : JD} {d : Nat} {Q : JO → JH → Prop} {K26 : Nat → Nat → JH → Prop} {r0 : Nat} {r1 : Nat} {x2 : Int32} {q0 : Nat} {h : JH} (hK26 : ∀ (r0 : Nat) (r1 : Nat) (h : JH), K26 r0 r1 h → JW D (d + 1) mX8_create 26 [some (vR 41 r0), some (vR 47 r1), none, none, none] [] h Q) (w : W_X8_create_128 D d Q K26 r0 r1 x2 q0 h) : JW D (d + 1) mX8_create 128 [some (vR 41 r0), some (vR 47 r1), some (vI x2), none, none] [vR 41 q0] h Q := by
  unfold W_X8_create_128 at w
  refine jw_iconst (pc' := 129) (x := (1 : Int32)) rfl rfl ?_
  refine jw_goto (pc' := 133) rfl rfl ?_
  exact w_X8_create_133 hK26 w
def W_X8_create_96 (D : JD) (d : Nat) (Q : JO → JH → Prop) (K26 : Nat → Nat → JH → Prop) (r0 : Nat) (r1 : Nat) (x2 : Int32) (q0 : Nat) (s1 : Int32) (s2 : Int32) (h : JH) : Prop :=
  q0 ≠ 0 ∧ jin s1 (jln h q0) ∧ ∀ h_3 : JH, h_3 = wai h q0 (ixn s1) s2 → (r0 ≠ 0 ∧ (cX8_is D d r0 (jcs D 240) h_3 (pI D h_3 (fun v_8 h_6 => (¬ v_8 = 0 → W_X8_create_128 D d Q K26 r0 r1 x2 r0 h_6) ∧ (v_8 = 0 → cX8_is D d r0 (jcs D 241) h_6 (pI D h_6 (fun v_12 h_10 => (¬ v_12 = 0 → W_X8_create_128 D d Q K26 r0 r1 x2 r0 h_10) ∧ (v_12 = 0 → cX8_is D d r0 (jcs D 242) h_10 (pI D h_10 (fun v_16 h_14 => (v_16 = 0 → W_X8_create_133 D d Q K26 r0 r1 x2 r0 (0 : Int32) h_14) ∧ (¬ v_16 = 0 → W_X8_create_128 D d Q K26 r0 r1 x2 r0 h_14)) (jth Q)))) (jth Q)))) (jth Q))))
theorem w_X8_create_96 {D : JD} {d : Nat} {Q : JO → JH → Prop} {K26 : Nat → Nat → JH → Prop} {r0 : Nat} {r1 : Nat} {x2 : Int32} {q0 : Nat} {s1 : Int32} {s2 : Int32} {h : JH} (hK26 : ∀ (r0 : Nat) (r1 : Nat) (h : JH), K26 r0 r1 h → JW D (d + 1) mX8_create 26 [some (vR 41 r0), some (vR 47 r1), none, none, none] [] h Q) (w : W_X8_create_96 D d Q K26 r0 r1 x2 q0 s1 s2 h) : JW D (d + 1) mX8_create 96 [some (vR 41 r0), some (vR 47 r1), some (vI x2), none, none] [vI s2, vI s1, vR 199 q0] h Q := by
  unfold W_X8_create_96 at w
  obtain ⟨g_1, w⟩ := w
  obtain ⟨g_2, w⟩ := w
  refine jw_iast' (pc' := 97) rfl rfl rfl rfl rfl g_1 g_2 (fun h_3 e_4 => ?_)
  replace w := w h_3 e_4
  refine jw_aload_n (pc' := 98) rfl rfl ?_
  refine jw_aload_n (pc' := 99) rfl rfl ?_
  refine jw_ldcwS (pc' := 102) rfl rfl rfl rfl ?_
  obtain ⟨g_5, w⟩ := w
  refine jw_cI (st := [vR 41 r0]) (sa := [vR 41 r0, vR 51 (jcs D 240)]) okX8_is rfl rfl rfl rfl rfl rfl (jstp_virtual (sa := [vR 51 (jcs D 240)]) (st := [vR 41 r0]) (k := 0) rfl rfl sX8_is okX8_is g_5 (one41.k g_5) rfl rfl) w (fun v_8 h_6 _ _ w => ?_)
  refine jw_if_ne (tgt := 128) (pc' := 108) rfl rfl (fun c_9 => ?_) (fun c_9 => ?_)
  · replace w := w.1 c_9
    exact w_X8_create_128 hK26 w
  · replace w := w.2 c_9
    refine jw_aload_n (pc' := 109) rfl rfl ?_
    refine jw_ldcwS (pc' := 112) rfl rfl rfl rfl ?_
    refine jw_cI (st := [vR 41 r0]) (sa := [vR 41 r0, vR 51 (jcs D 241)]) okX8_is rfl rfl rfl rfl rfl rfl (jstp_virtual (sa := [vR 51 (jcs D 241)]) (st := [vR 41 r0]) (k := 0) rfl rfl sX8_is okX8_is g_5 (one41.k g_5) rfl rfl) w (fun v_12 h_10 _ _ w => ?_)
    refine jw_if_ne (tgt := 128) (pc' := 118) rfl rfl (fun c_13 => ?_) (fun c_13 => ?_)
    · replace w := w.1 c_13
      exact w_X8_create_128 hK26 w
    · replace w := w.2 c_13
      refine jw_aload_n (pc' := 119) rfl rfl ?_
      refine jw_ldcwS (pc' := 122) rfl rfl rfl rfl ?_
      refine jw_cI (st := [vR 41 r0]) (sa := [vR 41 r0, vR 51 (jcs D 242)]) okX8_is rfl rfl rfl rfl rfl rfl (jstp_virtual (sa := [vR 51 (jcs D 242)]) (st := [vR 41 r0]) (k := 0) rfl rfl sX8_is okX8_is g_5 (one41.k g_5) rfl rfl) w (fun v_16 h_14 _ _ w => ?_)
      refine jw_if_eq (tgt := 132) (pc' := 128) rfl rfl (fun c_17 => ?_) (fun c_17 => ?_)
      · replace w := w.1 c_17
        refine jw_iconst (pc' := 133) (x := (0 : Int32)) rfl rfl ?_
        exact w_X8_create_133 hK26 w
      · replace w := w.2 c_17
        exact w_X8_create_128 hK26 w
def W_X8_create_41 (D : JD) (d : Nat) (Q : JO → JH → Prop) (K26 : Nat → Nat → JH → Prop) (r0 : Nat) (r1 : Nat) (q0 : Nat) (s1 : Int32) (h : JH) : Prop :=
  q0 ≠ 0 ∧ (cX8_can D d q0 s1 h (pV D h (fun h_2 => r1 ≠ 0 ∧ (r0 ≠ 0 ∧ (cX8_name D d r0 h_2 (pR D h_2 64 (fun v_9 h_7 => (jfr h_2 272 r1) ≠ 0 ∧ jin (jfi h_2 273 r1) (jln h_7 (jfr h_2 272 r1)) ∧ ∀ h_12 : JH, h_12 = war h_7 (jfr h_2 272 r1) (ixn (jfi h_2 273 r1)) v_9 → (cX8_is D d r0 (jcs D 240) h_12 (pI D h_12 (fun v_16 h_14 => (v_16 = 0 → cX8_is D d r0 (jcs D 241) h_14 (pI D h_14 (fun v_20 h_18 => (v_20 = 0 → W_X8_create_96 D d Q K26 r0 r1 (jfi h_2 273 r1) (jfr h_12 274 r1) (jfi h_2 273 r1) (16 : Int32) h_18) ∧ (¬ v_20 = 0 → W_X8_create_96 D d Q K26 r0 r1 (jfi h_2 273 r1) (jfr h_12 274 r1) (jfi h_2 273 r1) (25 : Int32) h_18)) (jth Q))) ∧ (¬ v_16 = 0 → W_X8_create_96 D d Q K26 r0 r1 (jfi h_2 273 r1) (jfr h_12 274 r1) (jfi h_2 273 r1) (20 : Int32) h_14)) (jth Q)))) (jth Q))))) (jth Q)))
theorem w_X8_create_41 {D : JD} {d : Nat} {Q : JO → JH → Prop} {K26 : Nat → Nat → JH → Prop} {r0 : Nat} {r1 : Nat} {q0 : Nat} {s1 : Int32} {h : JH} (hK26 : ∀ (r0 : Nat) (r1 : Nat) (h : JH), K26 r0 r1 h → JW D (d + 1) mX8_create 26 [some (vR 41 r0), some (vR 47 r1), none, none, none] [] h Q) (w : W_X8_create_41 D d Q K26 r0 r1 q0 s1 h) : JW D (d + 1) mX8_create 41 [some (vR 41 r0), some (vR 47 r1), none, none, none] [vI s1, vR 41 q0] h Q := by
  unfold W_X8_create_41 at w
  obtain ⟨g_1, w⟩ := w
  refine jw_cV (st := []) (sa := [vR 41 q0, vI s1]) okX8_can rfl rfl rfl rfl rfl rfl (jstp_virtual (sa := [vI s1]) (st := []) (k := 0) rfl rfl sX8_can okX8_can g_1 (one41.k g_1) rfl rfl) w (fun h_2 _ _ w => ?_)
  refine jw_aload_n (pc' := 45) rfl rfl ?_
  obtain ⟨g_5, w⟩ := w
  refine jw_getI (pc' := 48) (F := 273) rfl rfl rfl rfl g_5 ?_
  refine jw_istore_n (pc' := 49) (ls' := [some (vR 41 r0), some (vR 47 r1), some (vI (jfi h_2 273 r1)), none, none]) rfl (by decide) rfl ?_
  refine jw_aload_n (pc' := 50) rfl rfl ?_
  refine jw_getR (pc' := 53) (F := 272) (t' := 198) rfl rfl rfl rfl rfl g_5 ?_
  refine jw_iload_n (pc' := 54) rfl rfl ?_
  refine jw_aload_n (pc' := 55) rfl rfl ?_
  obtain ⟨g_6, w⟩ := w
  refine jw_cR (st := [vI (jfi h_2 273 r1), vR 198 (jfr h_2 272 r1)]) (sa := [vR 41 r0]) okX8_name rfl rfl rfl rfl rfl rfl (jstp_virtual (sa := []) (st := [vI (jfi h_2 273 r1), vR 198 (jfr h_2 272 r1)]) (k := 0) rfl rfl sX8_name okX8_name g_6 (one41.k g_6) rfl rfl) w (fun v_9 h_7 _ _ _ w => ?_)
  obtain ⟨g_10, w⟩ := w
  obtain ⟨g_11, w⟩ := w
  refine jw_aast' (pc' := 59) rfl rfl rfl rfl rfl rfl g_10 g_11 (fun h_12 e_13 => ?_)
  replace w := w h_12 e_13
  refine jw_aload_n (pc' := 60) rfl rfl ?_
  refine jw_getR (pc' := 63) (F := 274) (t' := 199) rfl rfl rfl rfl rfl g_5 ?_
  refine jw_iload_n (pc' := 64) rfl rfl ?_
  refine jw_aload_n (pc' := 65) rfl rfl ?_
  refine jw_ldcwS (pc' := 68) rfl rfl rfl rfl ?_
  refine jw_cI (st := [vI (jfi h_2 273 r1), vR 199 (jfr h_12 274 r1)]) (sa := [vR 41 r0, vR 51 (jcs D 240)]) okX8_is rfl rfl rfl rfl rfl rfl (jstp_virtual (sa := [vR 51 (jcs D 240)]) (st := [vI (jfi h_2 273 r1), vR 199 (jfr h_12 274 r1)]) (k := 0) rfl rfl sX8_is okX8_is g_6 (one41.k g_6) rfl rfl) w (fun v_16 h_14 _ _ w => ?_)
  refine jw_if_eq (tgt := 79) (pc' := 74) rfl rfl (fun c_17 => ?_) (fun c_17 => ?_)
  · replace w := w.1 c_17
    refine jw_aload_n (pc' := 80) rfl rfl ?_
    refine jw_ldcwS (pc' := 83) rfl rfl rfl rfl ?_
    refine jw_cI (st := [vI (jfi h_2 273 r1), vR 199 (jfr h_12 274 r1)]) (sa := [vR 41 r0, vR 51 (jcs D 241)]) okX8_is rfl rfl rfl rfl rfl rfl (jstp_virtual (sa := [vR 51 (jcs D 241)]) (st := [vI (jfi h_2 273 r1), vR 199 (jfr h_12 274 r1)]) (k := 0) rfl rfl sX8_is okX8_is g_6 (one41.k g_6) rfl rfl) w (fun v_20 h_18 _ _ w => ?_)
    refine jw_if_eq (tgt := 94) (pc' := 89) rfl rfl (fun c_21 => ?_) (fun c_21 => ?_)
    · replace w := w.1 c_21
      refine jw_bipush (pc' := 96) (x := (16 : Int32)) rfl rfl ?_
      exact w_X8_create_96 hK26 w
    · replace w := w.2 c_21
      refine jw_bipush (pc' := 91) (x := (25 : Int32)) rfl rfl ?_
      refine jw_goto (pc' := 96) rfl rfl ?_
      exact w_X8_create_96 hK26 w
  · replace w := w.2 c_17
    refine jw_bipush (pc' := 76) (x := (20 : Int32)) rfl rfl ?_
    refine jw_goto (pc' := 96) rfl rfl ?_
    exact w_X8_create_96 hK26 w
def W_X8_create_26 (D : JD) (d : Nat) (Q : JO → JH → Prop) (K26 : Nat → Nat → JH → Prop) (r0 : Nat) (r1 : Nat) (h : JH) : Prop :=
  r1 ≠ 0 ∧ (((10 : Int32) ≤ (jfi h 273 r1) → W_X8_create_41 D d Q K26 r0 r1 r0 (0 : Int32) h) ∧ (¬ (10 : Int32) ≤ (jfi h 273 r1) → W_X8_create_41 D d Q K26 r0 r1 r0 (1 : Int32) h))
theorem w_X8_create_26 {D : JD} {d : Nat} {Q : JO → JH → Prop} {K26 : Nat → Nat → JH → Prop} {r0 : Nat} {r1 : Nat} {h : JH} (hK26 : ∀ (r0 : Nat) (r1 : Nat) (h : JH), K26 r0 r1 h → JW D (d + 1) mX8_create 26 [some (vR 41 r0), some (vR 47 r1), none, none, none] [] h Q) (w : W_X8_create_26 D d Q K26 r0 r1 h) : JW D (d + 1) mX8_create 26 [some (vR 41 r0), some (vR 47 r1), none, none, none] [] h Q := by
  unfold W_X8_create_26 at w
  refine jw_aload_n (pc' := 27) rfl rfl ?_
  refine jw_aload_n (pc' := 28) rfl rfl ?_
  obtain ⟨g_1, w⟩ := w
  refine jw_getI (pc' := 31) (F := 273) rfl rfl rfl rfl g_1 ?_
  refine jw_bipush (pc' := 33) (x := (10 : Int32)) rfl rfl ?_
  refine jw_icmp_ge (tgt := 40) (pc' := 36) rfl rfl (fun c_2 => ?_) (fun c_2 => ?_)
  · replace w := w.1 c_2
    refine jw_iconst (pc' := 41) (x := (0 : Int32)) rfl rfl ?_
    exact w_X8_create_41 hK26 w
  · replace w := w.2 c_2
    refine jw_iconst (pc' := 37) (x := (1 : Int32)) rfl rfl ?_
    refine jw_goto (pc' := 41) rfl rfl ?_
    exact w_X8_create_41 hK26 w
def L_X8_create_26 (D : JD) (d : Nat) (Q : JO → JH → Prop) : Nat → Nat → Nat → JH → Prop
  | 0 => fun _ _ _ => False
  | n + 1 => fun r0 r1 h => W_X8_create_26 D d Q (L_X8_create_26 D d Q n) r0 r1 h
theorem l_X8_create_26 {D : JD} {d : Nat} {Q : JO → JH → Prop} : ∀ (n : Nat) (r0 : Nat) (r1 : Nat) (h : JH), L_X8_create_26 D d Q n r0 r1 h → JW D (d + 1) mX8_create 26 [some (vR 41 r0), some (vR 47 r1), none, none, none] [] h Q := by
  intro n
  induction n with
  | zero => intro _ _ _ w; exact w.elim
  | succ n ih => intro _ _ h w; exact w_X8_create_26 ih w
def W_X8_create_0 (D : JD) (d : Nat) (Q : JO → JH → Prop) (r0 : Nat) (r1 : Nat) (h : JH) : Prop :=
  r1 ≠ 0 ∧ ∀ h_2 : JH, h_2 = wfi h 270 r1 (0 : Int32) → (r0 ≠ 0 ∧ (cX8_need D d r0 (jcs D 238) h_2 (pV D h_2 (fun h_5 => cX8_name D d r0 h_5 (pR D h_5 64 (fun v_10 h_8 => ∀ h_11 : JH, h_11 = wfr h_8 271 r1 v_10 → (cX8_need D d r0 (jcs D 239) h_11 (pV D h_11 (fun h_13 => ∃ n, L_X8_create_26 D d Q n r0 r1 h_13) (jth Q)))) (jth Q))) (jth Q))))
theorem w_X8_create_0 {D : JD} {d : Nat} {Q : JO → JH → Prop} {r0 : Nat} {r1 : Nat} {h : JH} (w : W_X8_create_0 D d Q r0 r1 h) : JW D (d + 1) mX8_create 0 [some (vR 41 r0), some (vR 47 r1), none, none, none] [] h Q := by
  unfold W_X8_create_0 at w
  refine jw_aload_n (pc' := 1) rfl rfl ?_
  refine jw_iconst (pc' := 2) (x := (0 : Int32)) rfl rfl ?_
  obtain ⟨g_1, w⟩ := w
  refine jw_putI' (pc' := 5) (F := 270) rfl rfl rfl (Or.inr rfl) (Or.inl rfl) rfl (rfl) (rfl) rfl g_1 (fun h_2 e_3 => ?_)
  replace w := w h_2 e_3
  refine jw_aload_n (pc' := 6) rfl rfl ?_
  refine jw_ldcS (pc' := 8) rfl rfl rfl rfl ?_
  obtain ⟨g_4, w⟩ := w
  refine jw_cV (st := []) (sa := [vR 41 r0, vR 51 (jcs D 238)]) okX8_need rfl rfl rfl rfl rfl rfl (jstp_virtual (sa := [vR 51 (jcs D 238)]) (st := []) (k := 0) rfl rfl sX8_need okX8_need g_4 (one41.k g_4) rfl rfl) w (fun h_5 _ _ w => ?_)
  refine jw_aload_n (pc' := 12) rfl rfl ?_
  refine jw_aload_n (pc' := 13) rfl rfl ?_
  refine jw_cR (st := [vR 47 r1]) (sa := [vR 41 r0]) okX8_name rfl rfl rfl rfl rfl rfl (jstp_virtual (sa := []) (st := [vR 47 r1]) (k := 0) rfl rfl sX8_name okX8_name g_4 (one41.k g_4) rfl rfl) w (fun v_10 h_8 _ _ _ w => ?_)
  refine jw_putR' (pc' := 19) (F := 271) rfl rfl rfl (Or.inr rfl) (Or.inl rfl) rfl rfl rfl g_1 (fun h_11 e_12 => ?_)
  replace w := w h_11 e_12
  refine jw_aload_n (pc' := 20) rfl rfl ?_
  refine jw_ldcwS (pc' := 23) rfl rfl rfl rfl ?_
  refine jw_cV (st := []) (sa := [vR 41 r0, vR 51 (jcs D 239)]) okX8_need rfl rfl rfl rfl rfl rfl (jstp_virtual (sa := [vR 51 (jcs D 239)]) (st := []) (k := 0) rfl rfl sX8_need okX8_need g_4 (one41.k g_4) rfl rfl) w (fun h_13 _ _ w => ?_)
  obtain ⟨n, w⟩ := w
  exact l_X8_create_26 n _ _ _ w
def T_X8_create (D : JD) (d : Nat) (Q : JO → JH → Prop) (r0 : Nat) (r1 : Nat) (h : JH) : Prop := W_X8_create_0 D d Q r0 r1 h
theorem t_X8_create {D : JD} {d : Nat} {Q : JO → JH → Prop} {r0 : Nat} {r1 : Nat} {h : JH} (w : T_X8_create D d Q r0 r1 h) : cX8_create D (d + 1) r0 r1 h Q := by
  unfold T_X8_create at w
  unfold cX8_create
  exact w_X8_create_0 w
def W_X8_need_0 (D : JD) (d : Nat) (Q : JO → JH → Prop) (r0 : Nat) (r1 : Nat) (h : JH) : Prop :=
  r0 ≠ 0 ∧ (cX8_take D d r0 r1 h (pI D h (fun v_4 h_2 => cX8_can D d r0 v_4 h_2 (pV D h_2 (fun h_5 => Q (.inl none) h_5) (jth Q))) (jth Q)))
theorem w_X8_need_0 {D : JD} {d : Nat} {Q : JO → JH → Prop} {r0 : Nat} {r1 : Nat} {h : JH} (w : W_X8_need_0 D d Q r0 r1 h) : JW D (d + 1) mX8_need 0 [some (vR 41 r0), some (vR 64 r1)] [] h Q := by
  unfold W_X8_need_0 at w
  refine jw_aload_n (pc' := 1) rfl rfl ?_
  refine jw_aload_n (pc' := 2) rfl rfl ?_
  refine jw_aload_n (pc' := 3) rfl rfl ?_
  obtain ⟨g_1, w⟩ := w
  refine jw_cI (st := [vR 41 r0]) (sa := [vR 41 r0, vR 64 r1]) okX8_take rfl rfl rfl rfl rfl rfl (jstp_virtual (sa := [vR 64 r1]) (st := [vR 41 r0]) (k := 0) rfl rfl sX8_take okX8_take g_1 (one41.k g_1) rfl rfl) w (fun v_4 h_2 _ _ w => ?_)
  refine jw_cV (st := []) (sa := [vR 41 r0, vI v_4]) okX8_can rfl rfl rfl rfl rfl rfl (jstp_virtual (sa := [vI v_4]) (st := []) (k := 0) rfl rfl sX8_can okX8_can g_1 (one41.k g_1) rfl rfl) w (fun h_5 _ _ w => ?_)
  exact jw_return rfl rfl w
def T_X8_need (D : JD) (d : Nat) (Q : JO → JH → Prop) (r0 : Nat) (r1 : Nat) (h : JH) : Prop := W_X8_need_0 D d Q r0 r1 h
theorem t_X8_need {D : JD} {d : Nat} {Q : JO → JH → Prop} {r0 : Nat} {r1 : Nat} {h : JH} (w : T_X8_need D d Q r0 r1 h) : cX8_need D (d + 1) r0 r1 h Q := by
  unfold T_X8_need at w
  unfold cX8_need
  exact w_X8_need_0 w
def W_X8_name_14 (D : JD) (d : Nat) (Q : JO → JH → Prop) (r0 : Nat) (q0 : Nat) (s1 : Int32) (h : JH) : Prop :=
  q0 ≠ 0 ∧ (cX8_can D d q0 s1 h (pV D h (fun h_2 => r0 ≠ 0 ∧ (cX8_next D d r0 h_2 (pV D h_2 (fun h_6 => Q (.inl (some (vR 64 (jfr h_2 186 r0)))) h_6) (jth Q)))) (jth Q)))
theorem w_X8_name_14 {D : JD} {d : Nat} {Q : JO → JH → Prop} {r0 : Nat} {q0 : Nat} {s1 : Int32} {h : JH} (w : W_X8_name_14 D d Q r0 q0 s1 h) : JW D (d + 1) mX8_name 14 [some (vR 41 r0), none] [vI s1, vR 41 q0] h Q := by
  unfold W_X8_name_14 at w
  obtain ⟨g_1, w⟩ := w
  refine jw_cV (st := []) (sa := [vR 41 q0, vI s1]) okX8_can rfl rfl rfl rfl rfl rfl (jstp_virtual (sa := [vI s1]) (st := []) (k := 0) rfl rfl sX8_can okX8_can g_1 (one41.k g_1) rfl rfl) w (fun h_2 _ _ w => ?_)
  refine jw_aload_n (pc' := 18) rfl rfl ?_
  obtain ⟨g_5, w⟩ := w
  refine jw_getR (pc' := 21) (F := 186) (t' := 64) rfl rfl rfl rfl rfl g_5 ?_
  refine jw_astore_n (pc' := 22) (ls' := [some (vR 41 r0), some (vR 64 (jfr h_2 186 r0))]) rfl (by decide) rfl ?_
  refine jw_aload_n (pc' := 23) rfl rfl ?_
  refine jw_cV (st := []) (sa := [vR 41 r0]) okX8_next rfl rfl rfl rfl rfl rfl (jstp_virtual (sa := []) (st := []) (k := 0) rfl rfl sX8_next okX8_next g_5 (one41.k g_5) rfl rfl) w (fun h_6 _ _ w => ?_)
  refine jw_aload_n (pc' := 27) rfl rfl ?_
  exact jw_areturn rfl rfl rfl rfl rfl w
def W_X8_name_0 (D : JD) (d : Nat) (Q : JO → JH → Prop) (r0 : Nat) (h : JH) : Prop :=
  r0 ≠ 0 ∧ ((¬ (jfi h 183 r0) = (2 : Int32) → W_X8_name_14 D d Q r0 r0 (0 : Int32) h) ∧ ((jfi h 183 r0) = (2 : Int32) → W_X8_name_14 D d Q r0 r0 (1 : Int32) h))
theorem w_X8_name_0 {D : JD} {d : Nat} {Q : JO → JH → Prop} {r0 : Nat} {h : JH} (w : W_X8_name_0 D d Q r0 h) : JW D (d + 1) mX8_name 0 [some (vR 41 r0), none] [] h Q := by
  unfold W_X8_name_0 at w
  refine jw_aload_n (pc' := 1) rfl rfl ?_
  refine jw_aload_n (pc' := 2) rfl rfl ?_
  obtain ⟨g_1, w⟩ := w
  refine jw_getI (pc' := 5) (F := 183) rfl rfl rfl rfl g_1 ?_
  refine jw_iconst (pc' := 6) (x := (2 : Int32)) rfl rfl ?_
  refine jw_icmp_ne (tgt := 13) (pc' := 9) rfl rfl (fun c_2 => ?_) (fun c_2 => ?_)
  · replace w := w.1 c_2
    refine jw_iconst (pc' := 14) (x := (0 : Int32)) rfl rfl ?_
    exact w_X8_name_14 w
  · replace w := w.2 c_2
    refine jw_iconst (pc' := 10) (x := (1 : Int32)) rfl rfl ?_
    refine jw_goto (pc' := 14) rfl rfl ?_
    exact w_X8_name_14 w
def T_X8_name (D : JD) (d : Nat) (Q : JO → JH → Prop) (r0 : Nat) (h : JH) : Prop := W_X8_name_0 D d Q r0 h
theorem t_X8_name {D : JD} {d : Nat} {Q : JO → JH → Prop} {r0 : Nat} {h : JH} (w : T_X8_name D d Q r0 h) : cX8_name D (d + 1) r0 h Q := by
  unfold T_X8_name at w
  unfold cX8_name
  exact w_X8_name_0 w
def W_X8_insert_139 (D : JD) (d : Nat) (Q : JO → JH → Prop) (K100 : Nat → Nat → JH → Prop) (K127 : Nat → Nat → Int32 → JH → Prop) (r0 : Nat) (r1 : Nat) (x2 : Int32) (q0 : Nat) (s1 : Int32) (h : JH) : Prop :=
  q0 ≠ 0 ∧ (cX8_can D d q0 s1 h (pV D h (fun h_2 => r0 ≠ 0 ∧ (cX8_expression D d r0 h_2 (pR D h_2 48 (fun v_8 h_6 => r1 ≠ 0 ∧ (cX45_add D d r1 v_8 h_6 (pV D h_6 (fun h_10 => cX8_take D d r0 (jcs D 248) h_10 (pI D h_10 (fun v_15 h_13 => (¬ v_15 = 0 → K127 r0 r1 (x2 + (1 : Int32)) h_13) ∧ (v_15 = 0 → cX8_need D d r0 (jcs D 249) h_13 (pV D h_13 (fun h_17 => (jfr h_17 280 r1) ≠ 0 ∧ jin (jfi h_17 281 r1) (jln h_17 (jfr h_17 280 r1)) ∧ ∀ h_22 : JH, h_22 = wai h_17 (jfr h_17 280 r1) (ixn (jfi h_17 281 r1)) (jfi h_17 279 r1) → (∀ h_24 : JH, h_24 = wfi h_22 281 r1 ((jfi h_22 281 r1) + (1 : Int32)) → (cX8_take D d r0 (jcs D 248) h_24 (pI D h_24 (fun v_28 h_26 => (¬ v_28 = 0 → K100 r0 r1 h_26) ∧ (v_28 = 0 → Q (.inl none) h_26)) (jth Q))))) (jth Q)))) (jth Q))) (jth Q)))) (jth Q)))) (jth Q)))
theorem w_X8_insert_139 {D : JD} {d : Nat} {Q : JO → JH → Prop} {K100 : Nat → Nat → JH → Prop} {K127 : Nat → Nat → Int32 → JH → Prop} {r0 : Nat} {r1 : Nat} {x2 : Int32} {q0 : Nat} {s1 : Int32} {h : JH} (hK100 : ∀ (r0 : Nat) (r1 : Nat) (h : JH), K100 r0 r1 h → JW D (d + 1) mX8_insert 100 [some (vR 41 r0), some (vR 47 r1), none] [] h Q) (hK127 : ∀ (r0 : Nat) (r1 : Nat) (x2 : Int32) (h : JH), K127 r0 r1 x2 h → JW D (d + 1) mX8_insert 127 [some (vR 41 r0), some (vR 47 r1), some (vI x2)] [] h Q) (w : W_X8_insert_139 D d Q K100 K127 r0 r1 x2 q0 s1 h) : JW D (d + 1) mX8_insert 139 [some (vR 41 r0), some (vR 47 r1), some (vI x2)] [vI s1, vR 41 q0] h Q := by
  unfold W_X8_insert_139 at w
  obtain ⟨g_1, w⟩ := w
  refine jw_cV (st := []) (sa := [vR 41 q0, vI s1]) okX8_can rfl rfl rfl rfl rfl rfl (jstp_virtual (sa := [vI s1]) (st := []) (k := 0) rfl rfl sX8_can okX8_can g_1 (one41.k g_1) rfl rfl) w (fun h_2 _ _ w => ?_)
  refine jw_aload_n (pc' := 143) rfl rfl ?_
  refine jw_aload_n (pc' := 144) rfl rfl ?_
  obtain ⟨g_5, w⟩ := w
  refine jw_cR (st := [vR 47 r1]) (sa := [vR 41 r0]) okX8_expression rfl rfl rfl rfl rfl rfl (jstp_virtual (sa := []) (st := [vR 47 r1]) (k := 0) rfl rfl sX8_expression okX8_expression g_5 (one41.k g_5) rfl rfl) w (fun v_8 h_6 _ _ _ w => ?_)
  obtain ⟨g_9, w⟩ := w
  refine jw_cV (st := []) (sa := [vR 47 r1, vR 48 v_8]) okX45_add rfl rfl rfl rfl rfl rfl (jstp_virtual (sa := [vR 48 v_8]) (st := []) (k := 0) rfl rfl sX45_add okX45_add g_9 (one47.k g_9) rfl rfl) w (fun h_10 _ _ w => ?_)
  refine jw_iinc (pc' := 153) (y := x2 + (1 : Int32)) (ls' := [some (vR 41 r0), some (vR 47 r1), some (vI (x2 + (1 : Int32)))]) rfl (by decide) rfl rfl rfl ?_
  refine jw_aload_n (pc' := 154) rfl rfl ?_
  refine jw_ldcwS (pc' := 157) rfl rfl rfl rfl ?_
  refine jw_cI (st := []) (sa := [vR 41 r0, vR 51 (jcs D 248)]) okX8_take rfl rfl rfl rfl rfl rfl (jstp_virtual (sa := [vR 51 (jcs D 248)]) (st := []) (k := 0) rfl rfl sX8_take okX8_take g_5 (one41.k g_5) rfl rfl) w (fun v_15 h_13 _ _ w => ?_)
  refine jw_if_ne (tgt := 127) (pc' := 163) rfl rfl (fun c_16 => ?_) (fun c_16 => ?_)
  · replace w := w.1 c_16
    exact hK127 _ _ _ _ w
  · replace w := w.2 c_16
    refine jw_aload_n (pc' := 164) rfl rfl ?_
    refine jw_ldcwS (pc' := 167) rfl rfl rfl rfl ?_
    refine jw_cV (st := []) (sa := [vR 41 r0, vR 51 (jcs D 249)]) okX8_need rfl rfl rfl rfl rfl rfl (jstp_virtual (sa := [vR 51 (jcs D 249)]) (st := []) (k := 0) rfl rfl sX8_need okX8_need g_5 (one41.k g_5) rfl rfl) w (fun h_17 _ _ w => ?_)
    refine jw_aload_n (pc' := 171) rfl rfl ?_
    refine jw_getR (pc' := 174) (F := 280) (t' := 203) rfl rfl rfl rfl rfl g_9 ?_
    refine jw_aload_n (pc' := 175) rfl rfl ?_
    refine jw_getI (pc' := 178) (F := 281) rfl rfl rfl rfl g_9 ?_
    refine jw_aload_n (pc' := 179) rfl rfl ?_
    refine jw_getI (pc' := 182) (F := 279) rfl rfl rfl rfl g_9 ?_
    obtain ⟨g_20, w⟩ := w
    obtain ⟨g_21, w⟩ := w
    refine jw_iast' (pc' := 183) rfl rfl rfl rfl rfl g_20 g_21 (fun h_22 e_23 => ?_)
    replace w := w h_22 e_23
    refine jw_aload_n (pc' := 184) rfl rfl ?_
    refine jw_dup (pc' := 185) rfl rfl ?_
    refine jw_getI (pc' := 188) (F := 281) rfl rfl rfl rfl g_9 ?_
    refine jw_iconst (pc' := 189) (x := (1 : Int32)) rfl rfl ?_
    refine jw_iadd (pc' := 190) rfl ?_
    refine jw_putI' (pc' := 193) (F := 281) rfl rfl rfl (Or.inr rfl) (Or.inl rfl) rfl (rfl) (rfl) rfl g_9 (fun h_24 e_25 => ?_)
    replace w := w h_24 e_25
    refine jw_aload_n (pc' := 194) rfl rfl ?_
    refine jw_ldcwS (pc' := 197) rfl rfl rfl rfl ?_
    refine jw_cI (st := []) (sa := [vR 41 r0, vR 51 (jcs D 248)]) okX8_take rfl rfl rfl rfl rfl rfl (jstp_virtual (sa := [vR 51 (jcs D 248)]) (st := []) (k := 0) rfl rfl sX8_take okX8_take g_5 (one41.k g_5) rfl rfl) w (fun v_28 h_26 _ _ w => ?_)
    refine jw_if_ne (tgt := 100) (pc' := 203) rfl rfl (fun c_29 => ?_) (fun c_29 => ?_)
    · replace w := w.1 c_29
      refine jw_gen (ls' := [some (vR 41 r0), some (vR 47 r1), none]) (st' := []) (And.intro (Or.inl rfl) (And.intro (Or.inl rfl) (trivial))) (trivial) ?_
      exact hK100 _ _ _ w
    · replace w := w.2 c_29
      exact jw_return rfl rfl w
def W_X8_insert_127 (D : JD) (d : Nat) (Q : JO → JH → Prop) (K100 : Nat → Nat → JH → Prop) (K127 : Nat → Nat → Int32 → JH → Prop) (r0 : Nat) (r1 : Nat) (x2 : Int32) (h : JH) : Prop :=
  ((10 : Int32) ≤ x2 → W_X8_insert_139 D d Q K100 K127 r0 r1 x2 r0 (0 : Int32) h) ∧ (¬ (10 : Int32) ≤ x2 → W_X8_insert_139 D d Q K100 K127 r0 r1 x2 r0 (1 : Int32) h)
theorem w_X8_insert_127 {D : JD} {d : Nat} {Q : JO → JH → Prop} {K100 : Nat → Nat → JH → Prop} {K127 : Nat → Nat → Int32 → JH → Prop} {r0 : Nat} {r1 : Nat} {x2 : Int32} {h : JH} (hK100 : ∀ (r0 : Nat) (r1 : Nat) (h : JH), K100 r0 r1 h → JW D (d + 1) mX8_insert 100 [some (vR 41 r0), some (vR 47 r1), none] [] h Q) (hK127 : ∀ (r0 : Nat) (r1 : Nat) (x2 : Int32) (h : JH), K127 r0 r1 x2 h → JW D (d + 1) mX8_insert 127 [some (vR 41 r0), some (vR 47 r1), some (vI x2)] [] h Q) (w : W_X8_insert_127 D d Q K100 K127 r0 r1 x2 h) : JW D (d + 1) mX8_insert 127 [some (vR 41 r0), some (vR 47 r1), some (vI x2)] [] h Q := by
  unfold W_X8_insert_127 at w
  refine jw_aload_n (pc' := 128) rfl rfl ?_
  refine jw_iload_n (pc' := 129) rfl rfl ?_
  refine jw_bipush (pc' := 131) (x := (10 : Int32)) rfl rfl ?_
  refine jw_icmp_ge (tgt := 138) (pc' := 134) rfl rfl (fun c_1 => ?_) (fun c_1 => ?_)
  · replace w := w.1 c_1
    refine jw_iconst (pc' := 139) (x := (0 : Int32)) rfl rfl ?_
    exact w_X8_insert_139 hK100 hK127 w
  · replace w := w.2 c_1
    refine jw_iconst (pc' := 135) (x := (1 : Int32)) rfl rfl ?_
    refine jw_goto (pc' := 139) rfl rfl ?_
    exact w_X8_insert_139 hK100 hK127 w
def L_X8_insert_127 (D : JD) (d : Nat) (Q : JO → JH → Prop) (K100 : Nat → Nat → JH → Prop) : Nat → Nat → Nat → Int32 → JH → Prop
  | 0 => fun _ _ _ _ => False
  | n + 1 => fun r0 r1 x2 h => W_X8_insert_127 D d Q K100 (L_X8_insert_127 D d Q K100 n) r0 r1 x2 h
theorem l_X8_insert_127 {D : JD} {d : Nat} {Q : JO → JH → Prop} {K100 : Nat → Nat → JH → Prop} (hK100 : ∀ (r0 : Nat) (r1 : Nat) (h : JH), K100 r0 r1 h → JW D (d + 1) mX8_insert 100 [some (vR 41 r0), some (vR 47 r1), none] [] h Q) : ∀ (n : Nat) (r0 : Nat) (r1 : Nat) (x2 : Int32) (h : JH), L_X8_insert_127 D d Q K100 n r0 r1 x2 h → JW D (d + 1) mX8_insert 127 [some (vR 41 r0), some (vR 47 r1), some (vI x2)] [] h Q := by
  intro n
  induction n with
  | zero => intro _ _ _ _ w; exact w.elim
  | succ n ih => intro _ _ _ h w; exact w_X8_insert_127 hK100 ih w
def W_X8_insert_115 (D : JD) (d : Nat) (Q : JO → JH → Prop) (K100 : Nat → Nat → JH → Prop) (r0 : Nat) (r1 : Nat) (q0 : Nat) (s1 : Int32) (h : JH) : Prop :=
  q0 ≠ 0 ∧ (cX8_can D d q0 s1 h (pV D h (fun h_2 => r0 ≠ 0 ∧ (cX8_need D d r0 (jcs D 239) h_2 (pV D h_2 (fun h_6 => ∃ n, L_X8_insert_127 D d Q K100 n r0 r1 (0 : Int32) h_6) (jth Q)))) (jth Q)))
theorem w_X8_insert_115 {D : JD} {d : Nat} {Q : JO → JH → Prop} {K100 : Nat → Nat → JH → Prop} {r0 : Nat} {r1 : Nat} {q0 : Nat} {s1 : Int32} {h : JH} (hK100 : ∀ (r0 : Nat) (r1 : Nat) (h : JH), K100 r0 r1 h → JW D (d + 1) mX8_insert 100 [some (vR 41 r0), some (vR 47 r1), none] [] h Q) (w : W_X8_insert_115 D d Q K100 r0 r1 q0 s1 h) : JW D (d + 1) mX8_insert 115 [some (vR 41 r0), some (vR 47 r1), none] [vI s1, vR 41 q0] h Q := by
  unfold W_X8_insert_115 at w
  obtain ⟨g_1, w⟩ := w
  refine jw_cV (st := []) (sa := [vR 41 q0, vI s1]) okX8_can rfl rfl rfl rfl rfl rfl (jstp_virtual (sa := [vI s1]) (st := []) (k := 0) rfl rfl sX8_can okX8_can g_1 (one41.k g_1) rfl rfl) w (fun h_2 _ _ w => ?_)
  refine jw_aload_n (pc' := 119) rfl rfl ?_
  refine jw_ldcwS (pc' := 122) rfl rfl rfl rfl ?_
  obtain ⟨g_5, w⟩ := w
  refine jw_cV (st := []) (sa := [vR 41 r0, vR 51 (jcs D 239)]) okX8_need rfl rfl rfl rfl rfl rfl (jstp_virtual (sa := [vR 51 (jcs D 239)]) (st := []) (k := 0) rfl rfl sX8_need okX8_need g_5 (one41.k g_5) rfl rfl) w (fun h_6 _ _ w => ?_)
  refine jw_iconst (pc' := 126) (x := (0 : Int32)) rfl rfl ?_
  refine jw_istore_n (pc' := 127) (ls' := [some (vR 41 r0), some (vR 47 r1), some (vI (0 : Int32))]) rfl (by decide) rfl ?_
  obtain ⟨n, w⟩ := w
  exact l_X8_insert_127 hK100 n _ _ _ _ w
def W_X8_insert_100 (D : JD) (d : Nat) (Q : JO → JH → Prop) (K100 : Nat → Nat → JH → Prop) (r0 : Nat) (r1 : Nat) (h : JH) : Prop :=
  r1 ≠ 0 ∧ (((20 : Int32) ≤ (jfi h 281 r1) → W_X8_insert_115 D d Q K100 r0 r1 r0 (0 : Int32) h) ∧ (¬ (20 : Int32) ≤ (jfi h 281 r1) → W_X8_insert_115 D d Q K100 r0 r1 r0 (1 : Int32) h))
theorem w_X8_insert_100 {D : JD} {d : Nat} {Q : JO → JH → Prop} {K100 : Nat → Nat → JH → Prop} {r0 : Nat} {r1 : Nat} {h : JH} (hK100 : ∀ (r0 : Nat) (r1 : Nat) (h : JH), K100 r0 r1 h → JW D (d + 1) mX8_insert 100 [some (vR 41 r0), some (vR 47 r1), none] [] h Q) (w : W_X8_insert_100 D d Q K100 r0 r1 h) : JW D (d + 1) mX8_insert 100 [some (vR 41 r0), some (vR 47 r1), none] [] h Q := by
  unfold W_X8_insert_100 at w
  refine jw_aload_n (pc' := 101) rfl rfl ?_
  refine jw_aload_n (pc' := 102) rfl rfl ?_
  obtain ⟨g_1, w⟩ := w
  refine jw_getI (pc' := 105) (F := 281) rfl rfl rfl rfl g_1 ?_
  refine jw_bipush (pc' := 107) (x := (20 : Int32)) rfl rfl ?_
  refine jw_icmp_ge (tgt := 114) (pc' := 110) rfl rfl (fun c_2 => ?_) (fun c_2 => ?_)
  · replace w := w.1 c_2
    refine jw_iconst (pc' := 115) (x := (0 : Int32)) rfl rfl ?_
    exact w_X8_insert_115 hK100 w
  · replace w := w.2 c_2
    refine jw_iconst (pc' := 111) (x := (1 : Int32)) rfl rfl ?_
    refine jw_goto (pc' := 115) rfl rfl ?_
    exact w_X8_insert_115 hK100 w
def L_X8_insert_100 (D : JD) (d : Nat) (Q : JO → JH → Prop) : Nat → Nat → Nat → JH → Prop
  | 0 => fun _ _ _ => False
  | n + 1 => fun r0 r1 h => W_X8_insert_100 D d Q (L_X8_insert_100 D d Q n) r0 r1 h
theorem l_X8_insert_100 {D : JD} {d : Nat} {Q : JO → JH → Prop} : ∀ (n : Nat) (r0 : Nat) (r1 : Nat) (h : JH), L_X8_insert_100 D d Q n r0 r1 h → JW D (d + 1) mX8_insert 100 [some (vR 41 r0), some (vR 47 r1), none] [] h Q := by
  intro n
  induction n with
  | zero => intro _ _ _ w; exact w.elim
  | succ n ih => intro _ _ h w; exact w_X8_insert_100 ih w
def W_X8_insert_93 (D : JD) (d : Nat) (Q : JO → JH → Prop) (r0 : Nat) (r1 : Nat) (h : JH) : Prop :=
  r0 ≠ 0 ∧ (cX8_need D d r0 (jcs D 253) h (pV D h (fun h_2 => ∃ n, L_X8_insert_100 D d Q n r0 r1 h_2) (jth Q)))
theorem w_X8_insert_93 {D : JD} {d : Nat} {Q : JO → JH → Prop} {r0 : Nat} {r1 : Nat} {h : JH} (w : W_X8_insert_93 D d Q r0 r1 h) : JW D (d + 1) mX8_insert 93 [some (vR 41 r0), some (vR 47 r1), none] [] h Q := by
  unfold W_X8_insert_93 at w
  refine jw_aload_n (pc' := 94) rfl rfl ?_
  refine jw_ldcwS (pc' := 97) rfl rfl rfl rfl ?_
  obtain ⟨g_1, w⟩ := w
  refine jw_cV (st := []) (sa := [vR 41 r0, vR 51 (jcs D 253)]) okX8_need rfl rfl rfl rfl rfl rfl (jstp_virtual (sa := [vR 51 (jcs D 253)]) (st := []) (k := 0) rfl rfl sX8_need okX8_need g_1 (one41.k g_1) rfl rfl) w (fun h_2 _ _ w => ?_)
  obtain ⟨n, w⟩ := w
  exact l_X8_insert_100 n _ _ _ w
def W_X8_insert_50 (D : JD) (d : Nat) (Q : JO → JH → Prop) (K35 : Nat → Nat → JH → Prop) (r0 : Nat) (r1 : Nat) (q0 : Nat) (s1 : Int32) (h : JH) : Prop :=
  q0 ≠ 0 ∧ (cX8_can D d q0 s1 h (pV D h (fun h_2 => r1 ≠ 0 ∧ (r0 ≠ 0 ∧ (cX8_name D d r0 h_2 (pR D h_2 64 (fun v_9 h_7 => (jfr h_2 272 r1) ≠ 0 ∧ jin (jfi h_2 273 r1) (jln h_7 (jfr h_2 272 r1)) ∧ ∀ h_12 : JH, h_12 = war h_7 (jfr h_2 272 r1) (ixn (jfi h_2 273 r1)) v_9 → (∀ h_14 : JH, h_14 = wfi h_12 273 r1 ((jfi h_12 273 r1) + (1 : Int32)) → (cX8_take D d r0 (jcs D 248) h_14 (pI D h_14 (fun v_18 h_16 => (¬ v_18 = 0 → K35 r0 r1 h_16) ∧ (v_18 = 0 → cX8_need D d r0 (jcs D 249) h_16 (pV D h_16 (fun h_20 => W_X8_insert_93 D d Q r0 r1 h_20) (jth Q)))) (jth Q))))) (jth Q))))) (jth Q)))
theorem w_X8_insert_50 {D : JD} {d : Nat} {Q : JO → JH → Prop} {K35 : Nat → Nat → JH → Prop} {r0 : Nat} {r1 : Nat} {q0 : Nat} {s1 : Int32} {h : JH} (hK35 : ∀ (r0 : Nat) (r1 : Nat) (h : JH), K35 r0 r1 h → JW D (d + 1) mX8_insert 35 [some (vR 41 r0), some (vR 47 r1), none] [] h Q) (w : W_X8_insert_50 D d Q K35 r0 r1 q0 s1 h) : JW D (d + 1) mX8_insert 50 [some (vR 41 r0), some (vR 47 r1), none] [vI s1, vR 41 q0] h Q := by
  unfold W_X8_insert_50 at w
  obtain ⟨g_1, w⟩ := w
  refine jw_cV (st := []) (sa := [vR 41 q0, vI s1]) okX8_can rfl rfl rfl rfl rfl rfl (jstp_virtual (sa := [vI s1]) (st := []) (k := 0) rfl rfl sX8_can okX8_can g_1 (one41.k g_1) rfl rfl) w (fun h_2 _ _ w => ?_)
  refine jw_aload_n (pc' := 54) rfl rfl ?_
  obtain ⟨g_5, w⟩ := w
  refine jw_getR (pc' := 57) (F := 272) (t' := 198) rfl rfl rfl rfl rfl g_5 ?_
  refine jw_aload_n (pc' := 58) rfl rfl ?_
  refine jw_getI (pc' := 61) (F := 273) rfl rfl rfl rfl g_5 ?_
  refine jw_aload_n (pc' := 62) rfl rfl ?_
  obtain ⟨g_6, w⟩ := w
  refine jw_cR (st := [vI (jfi h_2 273 r1), vR 198 (jfr h_2 272 r1)]) (sa := [vR 41 r0]) okX8_name rfl rfl rfl rfl rfl rfl (jstp_virtual (sa := []) (st := [vI (jfi h_2 273 r1), vR 198 (jfr h_2 272 r1)]) (k := 0) rfl rfl sX8_name okX8_name g_6 (one41.k g_6) rfl rfl) w (fun v_9 h_7 _ _ _ w => ?_)
  obtain ⟨g_10, w⟩ := w
  obtain ⟨g_11, w⟩ := w
  refine jw_aast' (pc' := 66) rfl rfl rfl rfl rfl rfl g_10 g_11 (fun h_12 e_13 => ?_)
  replace w := w h_12 e_13
  refine jw_aload_n (pc' := 67) rfl rfl ?_
  refine jw_dup (pc' := 68) rfl rfl ?_
  refine jw_getI (pc' := 71) (F := 273) rfl rfl rfl rfl g_5 ?_
  refine jw_iconst (pc' := 72) (x := (1 : Int32)) rfl rfl ?_
  refine jw_iadd (pc' := 73) rfl ?_
  refine jw_putI' (pc' := 76) (F := 273) rfl rfl rfl (Or.inr rfl) (Or.inl rfl) rfl (rfl) (rfl) rfl g_5 (fun h_14 e_15 => ?_)
  replace w := w h_14 e_15
  refine jw_aload_n (pc' := 77) rfl rfl ?_
  refine jw_ldcwS (pc' := 80) rfl rfl rfl rfl ?_
  refine jw_cI (st := []) (sa := [vR 41 r0, vR 51 (jcs D 248)]) okX8_take rfl rfl rfl rfl rfl rfl (jstp_virtual (sa := [vR 51 (jcs D 248)]) (st := []) (k := 0) rfl rfl sX8_take okX8_take g_6 (one41.k g_6) rfl rfl) w (fun v_18 h_16 _ _ w => ?_)
  refine jw_if_ne (tgt := 35) (pc' := 86) rfl rfl (fun c_19 => ?_) (fun c_19 => ?_)
  · replace w := w.1 c_19
    exact hK35 _ _ _ w
  · replace w := w.2 c_19
    refine jw_aload_n (pc' := 87) rfl rfl ?_
    refine jw_ldcwS (pc' := 90) rfl rfl rfl rfl ?_
    refine jw_cV (st := []) (sa := [vR 41 r0, vR 51 (jcs D 249)]) okX8_need rfl rfl rfl rfl rfl rfl (jstp_virtual (sa := [vR 51 (jcs D 249)]) (st := []) (k := 0) rfl rfl sX8_need okX8_need g_6 (one41.k g_6) rfl rfl) w (fun h_20 _ _ w => ?_)
    exact w_X8_insert_93 w
def W_X8_insert_35 (D : JD) (d : Nat) (Q : JO → JH → Prop) (K35 : Nat → Nat → JH → Prop) (r0 : Nat) (r1 : Nat) (h : JH) : Prop :=
  r1 ≠ 0 ∧ (((10 : Int32) ≤ (jfi h 273 r1) → W_X8_insert_50 D d Q K35 r0 r1 r0 (0 : Int32) h) ∧ (¬ (10 : Int32) ≤ (jfi h 273 r1) → W_X8_insert_50 D d Q K35 r0 r1 r0 (1 : Int32) h))
theorem w_X8_insert_35 {D : JD} {d : Nat} {Q : JO → JH → Prop} {K35 : Nat → Nat → JH → Prop} {r0 : Nat} {r1 : Nat} {h : JH} (hK35 : ∀ (r0 : Nat) (r1 : Nat) (h : JH), K35 r0 r1 h → JW D (d + 1) mX8_insert 35 [some (vR 41 r0), some (vR 47 r1), none] [] h Q) (w : W_X8_insert_35 D d Q K35 r0 r1 h) : JW D (d + 1) mX8_insert 35 [some (vR 41 r0), some (vR 47 r1), none] [] h Q := by
  unfold W_X8_insert_35 at w
  refine jw_aload_n (pc' := 36) rfl rfl ?_
  refine jw_aload_n (pc' := 37) rfl rfl ?_
  obtain ⟨g_1, w⟩ := w
  refine jw_getI (pc' := 40) (F := 273) rfl rfl rfl rfl g_1 ?_
  refine jw_bipush (pc' := 42) (x := (10 : Int32)) rfl rfl ?_
  refine jw_icmp_ge (tgt := 49) (pc' := 45) rfl rfl (fun c_2 => ?_) (fun c_2 => ?_)
  · replace w := w.1 c_2
    refine jw_iconst (pc' := 50) (x := (0 : Int32)) rfl rfl ?_
    exact w_X8_insert_50 hK35 w
  · replace w := w.2 c_2
    refine jw_iconst (pc' := 46) (x := (1 : Int32)) rfl rfl ?_
    refine jw_goto (pc' := 50) rfl rfl ?_
    exact w_X8_insert_50 hK35 w
def L_X8_insert_35 (D : JD) (d : Nat) (Q : JO → JH → Prop) : Nat → Nat → Nat → JH → Prop
  | 0 => fun _ _ _ => False
  | n + 1 => fun r0 r1 h => W_X8_insert_35 D d Q (L_X8_insert_35 D d Q n) r0 r1 h
theorem l_X8_insert_35 {D : JD} {d : Nat} {Q : JO → JH → Prop} : ∀ (n : Nat) (r0 : Nat) (r1 : Nat) (h : JH), L_X8_insert_35 D d Q n r0 r1 h → JW D (d + 1) mX8_insert 35 [some (vR 41 r0), some (vR 47 r1), none] [] h Q := by
  intro n
  induction n with
  | zero => intro _ _ _ w; exact w.elim
  | succ n ih => intro _ _ h w; exact w_X8_insert_35 ih w
def W_X8_insert_0 (D : JD) (d : Nat) (Q : JO → JH → Prop) (r0 : Nat) (r1 : Nat) (h : JH) : Prop :=
  r1 ≠ 0 ∧ ∀ h_2 : JH, h_2 = wfi h 270 r1 (2 : Int32) → (r0 ≠ 0 ∧ (cX8_need D d r0 (jcs D 252) h_2 (pV D h_2 (fun h_5 => cX8_name D d r0 h_5 (pR D h_5 64 (fun v_10 h_8 => ∀ h_11 : JH, h_11 = wfr h_8 271 r1 v_10 → (cX8_take D d r0 (jcs D 239) h_11 (pI D h_11 (fun v_15 h_13 => (v_15 = 0 → W_X8_insert_93 D d Q r0 r1 h_13) ∧ (¬ v_15 = 0 → ∀ h_17 : JH, h_17 = wfi h_13 277 r1 (1 : Int32) → (∃ n, L_X8_insert_35 D d Q n r0 r1 h_17))) (jth Q)))) (jth Q))) (jth Q))))
theorem w_X8_insert_0 {D : JD} {d : Nat} {Q : JO → JH → Prop} {r0 : Nat} {r1 : Nat} {h : JH} (w : W_X8_insert_0 D d Q r0 r1 h) : JW D (d + 1) mX8_insert 0 [some (vR 41 r0), some (vR 47 r1), none] [] h Q := by
  unfold W_X8_insert_0 at w
  refine jw_aload_n (pc' := 1) rfl rfl ?_
  refine jw_iconst (pc' := 2) (x := (2 : Int32)) rfl rfl ?_
  obtain ⟨g_1, w⟩ := w
  refine jw_putI' (pc' := 5) (F := 270) rfl rfl rfl (Or.inr rfl) (Or.inl rfl) rfl (rfl) (rfl) rfl g_1 (fun h_2 e_3 => ?_)
  replace w := w h_2 e_3
  refine jw_aload_n (pc' := 6) rfl rfl ?_
  refine jw_ldcwS (pc' := 9) rfl rfl rfl rfl ?_
  obtain ⟨g_4, w⟩ := w
  refine jw_cV (st := []) (sa := [vR 41 r0, vR 51 (jcs D 252)]) okX8_need rfl rfl rfl rfl rfl rfl (jstp_virtual (sa := [vR 51 (jcs D 252)]) (st := []) (k := 0) rfl rfl sX8_need okX8_need g_4 (one41.k g_4) rfl rfl) w (fun h_5 _ _ w => ?_)
  refine jw_aload_n (pc' := 13) rfl rfl ?_
  refine jw_aload_n (pc' := 14) rfl rfl ?_
  refine jw_cR (st := [vR 47 r1]) (sa := [vR 41 r0]) okX8_name rfl rfl rfl rfl rfl rfl (jstp_virtual (sa := []) (st := [vR 47 r1]) (k := 0) rfl rfl sX8_name okX8_name g_4 (one41.k g_4) rfl rfl) w (fun v_10 h_8 _ _ _ w => ?_)
  refine jw_putR' (pc' := 20) (F := 271) rfl rfl rfl (Or.inr rfl) (Or.inl rfl) rfl rfl rfl g_1 (fun h_11 e_12 => ?_)
  replace w := w h_11 e_12
  refine jw_aload_n (pc' := 21) rfl rfl ?_
  refine jw_ldcwS (pc' := 24) rfl rfl rfl rfl ?_
  refine jw_cI (st := []) (sa := [vR 41 r0, vR 51 (jcs D 239)]) okX8_take rfl rfl rfl rfl rfl rfl (jstp_virtual (sa := [vR 51 (jcs D 239)]) (st := []) (k := 0) rfl rfl sX8_take okX8_take g_4 (one41.k g_4) rfl rfl) w (fun v_15 h_13 _ _ w => ?_)
  refine jw_if_eq (tgt := 93) (pc' := 30) rfl rfl (fun c_16 => ?_) (fun c_16 => ?_)
  · replace w := w.1 c_16
    exact w_X8_insert_93 w
  · replace w := w.2 c_16
    refine jw_aload_n (pc' := 31) rfl rfl ?_
    refine jw_iconst (pc' := 32) (x := (1 : Int32)) rfl rfl ?_
    refine jw_putI' (pc' := 35) (F := 277) rfl rfl rfl (Or.inr rfl) (Or.inl rfl) rfl (rfl) (rfl) rfl g_1 (fun h_17 e_18 => ?_)
    replace w := w h_17 e_18
    obtain ⟨n, w⟩ := w
    exact l_X8_insert_35 n _ _ _ w
def T_X8_insert (D : JD) (d : Nat) (Q : JO → JH → Prop) (r0 : Nat) (r1 : Nat) (h : JH) : Prop := W_X8_insert_0 D d Q r0 r1 h
theorem t_X8_insert {D : JD} {d : Nat} {Q : JO → JH → Prop} {r0 : Nat} {r1 : Nat} {h : JH} (w : T_X8_insert D d Q r0 r1 h) : cX8_insert D (d + 1) r0 r1 h Q := by
  unfold T_X8_insert at w
  unfold cX8_insert
  exact w_X8_insert_0 w
def W_X8_expression_9 (D : JD) (d : Nat) (Q : JO → JH → Prop) (K9 : Nat → Nat → JH → Prop) (r0 : Nat) (r1 : Nat) (h : JH) : Prop :=
  r0 ≠ 0 ∧ (cX8_is D d r0 (jcs D 273) h (pI D h (fun v_4 h_2 => (v_4 = 0 → ∀ h_6 : JH, h_6 = wfi h_2 189 r0 ((jfi h_2 189 r0) - (1 : Int32)) → (Q (.inl (some (vR 48 r1))) h_6)) ∧ (¬ v_4 = 0 → cX8_operator D d r0 h_2 (pV D h_2 (fun h_8 => cX8_next D d r0 h_8 (pV D h_8 (fun h_11 => cX8_both D d r0 h_11 (pR D h_11 48 (fun v_16 h_14 => cX8_pair D d (11 : Int32) (0 : Int32) r1 v_16 h_14 (pR D h_14 48 (fun v_19 h_17 => K9 r0 v_19 h_17) (jth Q))) (jth Q))) (jth Q))) (jth Q)))) (jth Q)))
theorem w_X8_expression_9 {D : JD} {d : Nat} {Q : JO → JH → Prop} {K9 : Nat → Nat → JH → Prop} {r0 : Nat} {r1 : Nat} {h : JH} (hK9 : ∀ (r0 : Nat) (r1 : Nat) (h : JH), K9 r0 r1 h → JW D (d + 1) mX8_expression 9 [some (vR 41 r0), some (vR 48 r1)] [] h Q) (w : W_X8_expression_9 D d Q K9 r0 r1 h) : JW D (d + 1) mX8_expression 9 [some (vR 41 r0), some (vR 48 r1)] [] h Q := by
  unfold W_X8_expression_9 at w
  refine jw_aload_n (pc' := 10) rfl rfl ?_
  refine jw_ldcwS (pc' := 13) rfl rfl rfl rfl ?_
  obtain ⟨g_1, w⟩ := w
  refine jw_cI (st := []) (sa := [vR 41 r0, vR 51 (jcs D 273)]) okX8_is rfl rfl rfl rfl rfl rfl (jstp_virtual (sa := [vR 51 (jcs D 273)]) (st := []) (k := 0) rfl rfl sX8_is okX8_is g_1 (one41.k g_1) rfl rfl) w (fun v_4 h_2 _ _ w => ?_)
  refine jw_if_eq (tgt := 42) (pc' := 19) rfl rfl (fun c_5 => ?_) (fun c_5 => ?_)
  · replace w := w.1 c_5
    refine jw_aload_n (pc' := 43) rfl rfl ?_
    refine jw_dup (pc' := 44) rfl rfl ?_
    refine jw_getI (pc' := 47) (F := 189) rfl rfl rfl rfl g_1 ?_
    refine jw_iconst (pc' := 48) (x := (1 : Int32)) rfl rfl ?_
    refine jw_isub (pc' := 49) rfl ?_
    refine jw_putI' (pc' := 52) (F := 189) rfl rfl rfl (Or.inr rfl) (Or.inl rfl) rfl (rfl) (rfl) rfl g_1 (fun h_6 e_7 => ?_)
    replace w := w h_6 e_7
    refine jw_aload_n (pc' := 53) rfl rfl ?_
    exact jw_areturn rfl rfl rfl rfl rfl w
  · replace w := w.2 c_5
    refine jw_aload_n (pc' := 20) rfl rfl ?_
    refine jw_cV (st := []) (sa := [vR 41 r0]) okX8_operator rfl rfl rfl rfl rfl rfl (jstp_virtual (sa := []) (st := []) (k := 0) rfl rfl sX8_operator okX8_operator g_1 (one41.k g_1) rfl rfl) w (fun h_8 _ _ w => ?_)
    refine jw_aload_n (pc' := 24) rfl rfl ?_
    refine jw_cV (st := []) (sa := [vR 41 r0]) okX8_next rfl rfl rfl rfl rfl rfl (jstp_virtual (sa := []) (st := []) (k := 0) rfl rfl sX8_next okX8_next g_1 (one41.k g_1) rfl rfl) w (fun h_11 _ _ w => ?_)
    refine jw_bipush (pc' := 29) (x := (11 : Int32)) rfl rfl ?_
    refine jw_iconst (pc' := 30) (x := (0 : Int32)) rfl rfl ?_
    refine jw_aload_n (pc' := 31) rfl rfl ?_
    refine jw_aload_n (pc' := 32) rfl rfl ?_
    refine jw_cR (st := [vR 48 r1, vI (0 : Int32), vI (11 : Int32)]) (sa := [vR 41 r0]) okX8_both rfl rfl rfl rfl rfl rfl (jstp_virtual (sa := []) (st := [vR 48 r1, vI (0 : Int32), vI (11 : Int32)]) (k := 0) rfl rfl sX8_both okX8_both g_1 (one41.k g_1) rfl rfl) w (fun v_16 h_14 _ _ _ w => ?_)
    refine jw_cR (st := []) (sa := [vI (11 : Int32), vI (0 : Int32), vR 48 r1, vR 48 v_16]) okX8_pair rfl rfl rfl rfl rfl rfl (jstp_static (sa := [vI (11 : Int32), vI (0 : Int32), vR 48 r1, vR 48 v_16]) (st := []) rfl rfl sX8_pair okX8_pair rfl rfl) w (fun v_19 h_17 _ _ _ w => ?_)
    refine jw_astore_n (pc' := 39) (ls' := [some (vR 41 r0), some (vR 48 v_19)]) rfl (by decide) rfl ?_
    refine jw_goto (pc' := 9) rfl rfl ?_
    exact hK9 _ _ _ w
def L_X8_expression_9 (D : JD) (d : Nat) (Q : JO → JH → Prop) : Nat → Nat → Nat → JH → Prop
  | 0 => fun _ _ _ => False
  | n + 1 => fun r0 r1 h => W_X8_expression_9 D d Q (L_X8_expression_9 D d Q n) r0 r1 h
theorem l_X8_expression_9 {D : JD} {d : Nat} {Q : JO → JH → Prop} : ∀ (n : Nat) (r0 : Nat) (r1 : Nat) (h : JH), L_X8_expression_9 D d Q n r0 r1 h → JW D (d + 1) mX8_expression 9 [some (vR 41 r0), some (vR 48 r1)] [] h Q := by
  intro n
  induction n with
  | zero => intro _ _ _ w; exact w.elim
  | succ n ih => intro _ _ h w; exact w_X8_expression_9 ih w
def W_X8_expression_0 (D : JD) (d : Nat) (Q : JO → JH → Prop) (r0 : Nat) (h : JH) : Prop :=
  r0 ≠ 0 ∧ (cX8_deeper D d r0 h (pV D h (fun h_2 => cX8_both D d r0 h_2 (pR D h_2 48 (fun v_7 h_5 => ∃ n, L_X8_expression_9 D d Q n r0 v_7 h_5) (jth Q))) (jth Q)))
theorem w_X8_expression_0 {D : JD} {d : Nat} {Q : JO → JH → Prop} {r0 : Nat} {h : JH} (w : W_X8_expression_0 D d Q r0 h) : JW D (d + 1) mX8_expression 0 [some (vR 41 r0), none] [] h Q := by
  unfold W_X8_expression_0 at w
  refine jw_aload_n (pc' := 1) rfl rfl ?_
  obtain ⟨g_1, w⟩ := w
  refine jw_cV (st := []) (sa := [vR 41 r0]) okX8_deeper rfl rfl rfl rfl rfl rfl (jstp_virtual (sa := []) (st := []) (k := 0) rfl rfl sX8_deeper okX8_deeper g_1 (one41.k g_1) rfl rfl) w (fun h_2 _ _ w => ?_)
  refine jw_aload_n (pc' := 5) rfl rfl ?_
  refine jw_cR (st := []) (sa := [vR 41 r0]) okX8_both rfl rfl rfl rfl rfl rfl (jstp_virtual (sa := []) (st := []) (k := 0) rfl rfl sX8_both okX8_both g_1 (one41.k g_1) rfl rfl) w (fun v_7 h_5 _ _ _ w => ?_)
  refine jw_astore_n (pc' := 9) (ls' := [some (vR 41 r0), some (vR 48 v_7)]) rfl (by decide) rfl ?_
  obtain ⟨n, w⟩ := w
  exact l_X8_expression_9 n _ _ _ w
def T_X8_expression (D : JD) (d : Nat) (Q : JO → JH → Prop) (r0 : Nat) (h : JH) : Prop := W_X8_expression_0 D d Q r0 h
theorem t_X8_expression {D : JD} {d : Nat} {Q : JO → JH → Prop} {r0 : Nat} {h : JH} (w : T_X8_expression D d Q r0 h) : cX8_expression D (d + 1) r0 h Q := by
  unfold T_X8_expression at w
  unfold cX8_expression
  exact w_X8_expression_0 w
def W_X8_deeper_15 (D : JD) (d : Nat) (Q : JO → JH → Prop) (r0 : Nat) (q0 : Nat) (s1 : Int32) (h : JH) : Prop :=
  q0 ≠ 0 ∧ (cX8_can D d q0 s1 h (pV D h (fun h_2 => r0 ≠ 0 ∧ (∀ h_6 : JH, h_6 = wfi h_2 189 r0 ((jfi h_2 189 r0) + (1 : Int32)) → (Q (.inl none) h_6))) (jth Q)))
theorem w_X8_deeper_15 {D : JD} {d : Nat} {Q : JO → JH → Prop} {r0 : Nat} {q0 : Nat} {s1 : Int32} {h : JH} (w : W_X8_deeper_15 D d Q r0 q0 s1 h) : JW D (d + 1) mX8_deeper 15 [some (vR 41 r0)] [vI s1, vR 41 q0] h Q := by
  unfold W_X8_deeper_15 at w
  obtain ⟨g_1, w⟩ := w
  refine jw_cV (st := []) (sa := [vR 41 q0, vI s1]) okX8_can rfl rfl rfl rfl rfl rfl (jstp_virtual (sa := [vI s1]) (st := []) (k := 0) rfl rfl sX8_can okX8_can g_1 (one41.k g_1) rfl rfl) w (fun h_2 _ _ w => ?_)
  refine jw_aload_n (pc' := 19) rfl rfl ?_
  refine jw_dup (pc' := 20) rfl rfl ?_
  obtain ⟨g_5, w⟩ := w
  refine jw_getI (pc' := 23) (F := 189) rfl rfl rfl rfl g_5 ?_
  refine jw_iconst (pc' := 24) (x := (1 : Int32)) rfl rfl ?_
  refine jw_iadd (pc' := 25) rfl ?_
  refine jw_putI' (pc' := 28) (F := 189) rfl rfl rfl (Or.inr rfl) (Or.inl rfl) rfl (rfl) (rfl) rfl g_5 (fun h_6 e_7 => ?_)
  replace w := w h_6 e_7
  exact jw_return rfl rfl w
def W_X8_deeper_0 (D : JD) (d : Nat) (Q : JO → JH → Prop) (r0 : Nat) (h : JH) : Prop :=
  r0 ≠ 0 ∧ (((30 : Int32) ≤ (jfi h 189 r0) → W_X8_deeper_15 D d Q r0 r0 (0 : Int32) h) ∧ (¬ (30 : Int32) ≤ (jfi h 189 r0) → W_X8_deeper_15 D d Q r0 r0 (1 : Int32) h))
theorem w_X8_deeper_0 {D : JD} {d : Nat} {Q : JO → JH → Prop} {r0 : Nat} {h : JH} (w : W_X8_deeper_0 D d Q r0 h) : JW D (d + 1) mX8_deeper 0 [some (vR 41 r0)] [] h Q := by
  unfold W_X8_deeper_0 at w
  refine jw_aload_n (pc' := 1) rfl rfl ?_
  refine jw_aload_n (pc' := 2) rfl rfl ?_
  obtain ⟨g_1, w⟩ := w
  refine jw_getI (pc' := 5) (F := 189) rfl rfl rfl rfl g_1 ?_
  refine jw_bipush (pc' := 7) (x := (30 : Int32)) rfl rfl ?_
  refine jw_icmp_ge (tgt := 14) (pc' := 10) rfl rfl (fun c_2 => ?_) (fun c_2 => ?_)
  · replace w := w.1 c_2
    refine jw_iconst (pc' := 15) (x := (0 : Int32)) rfl rfl ?_
    exact w_X8_deeper_15 w
  · replace w := w.2 c_2
    refine jw_iconst (pc' := 11) (x := (1 : Int32)) rfl rfl ?_
    refine jw_goto (pc' := 15) rfl rfl ?_
    exact w_X8_deeper_15 w
def T_X8_deeper (D : JD) (d : Nat) (Q : JO → JH → Prop) (r0 : Nat) (h : JH) : Prop := W_X8_deeper_0 D d Q r0 h
theorem t_X8_deeper {D : JD} {d : Nat} {Q : JO → JH → Prop} {r0 : Nat} {h : JH} (w : T_X8_deeper D d Q r0 h) : cX8_deeper D (d + 1) r0 h Q := by
  unfold T_X8_deeper at w
  unfold cX8_deeper
  exact w_X8_deeper_0 w
def W_X8_both_5 (D : JD) (d : Nat) (Q : JO → JH → Prop) (K5 : Nat → Nat → JH → Prop) (r0 : Nat) (r1 : Nat) (h : JH) : Prop :=
  r0 ≠ 0 ∧ (cX8_is D d r0 (jcs D 272) h (pI D h (fun v_4 h_2 => (v_4 = 0 → Q (.inl (some (vR 48 r1))) h_2) ∧ (¬ v_4 = 0 → cX8_operator D d r0 h_2 (pV D h_2 (fun h_6 => cX8_next D d r0 h_6 (pV D h_6 (fun h_9 => cX8_negated D d r0 h_9 (pR D h_9 48 (fun v_14 h_12 => cX8_pair D d (10 : Int32) (0 : Int32) r1 v_14 h_12 (pR D h_12 48 (fun v_17 h_15 => K5 r0 v_17 h_15) (jth Q))) (jth Q))) (jth Q))) (jth Q)))) (jth Q)))
theorem w_X8_both_5 {D : JD} {d : Nat} {Q : JO → JH → Prop} {K5 : Nat → Nat → JH → Prop} {r0 : Nat} {r1 : Nat} {h : JH} (hK5 : ∀ (r0 : Nat) (r1 : Nat) (h : JH), K5 r0 r1 h → JW D (d + 1) mX8_both 5 [some (vR 41 r0), some (vR 48 r1)] [] h Q) (w : W_X8_both_5 D d Q K5 r0 r1 h) : JW D (d + 1) mX8_both 5 [some (vR 41 r0), some (vR 48 r1)] [] h Q := by
  unfold W_X8_both_5 at w
  refine jw_aload_n (pc' := 6) rfl rfl ?_
  refine jw_ldcwS (pc' := 9) rfl rfl rfl rfl ?_
  obtain ⟨g_1, w⟩ := w
  refine jw_cI (st := []) (sa := [vR 41 r0, vR 51 (jcs D 272)]) okX8_is rfl rfl rfl rfl rfl rfl (jstp_virtual (sa := [vR 51 (jcs D 272)]) (st := []) (k := 0) rfl rfl sX8_is okX8_is g_1 (one41.k g_1) rfl rfl) w (fun v_4 h_2 _ _ w => ?_)
  refine jw_if_eq (tgt := 38) (pc' := 15) rfl rfl (fun c_5 => ?_) (fun c_5 => ?_)
  · replace w := w.1 c_5
    refine jw_aload_n (pc' := 39) rfl rfl ?_
    exact jw_areturn rfl rfl rfl rfl rfl w
  · replace w := w.2 c_5
    refine jw_aload_n (pc' := 16) rfl rfl ?_
    refine jw_cV (st := []) (sa := [vR 41 r0]) okX8_operator rfl rfl rfl rfl rfl rfl (jstp_virtual (sa := []) (st := []) (k := 0) rfl rfl sX8_operator okX8_operator g_1 (one41.k g_1) rfl rfl) w (fun h_6 _ _ w => ?_)
    refine jw_aload_n (pc' := 20) rfl rfl ?_
    refine jw_cV (st := []) (sa := [vR 41 r0]) okX8_next rfl rfl rfl rfl rfl rfl (jstp_virtual (sa := []) (st := []) (k := 0) rfl rfl sX8_next okX8_next g_1 (one41.k g_1) rfl rfl) w (fun h_9 _ _ w => ?_)
    refine jw_bipush (pc' := 25) (x := (10 : Int32)) rfl rfl ?_
    refine jw_iconst (pc' := 26) (x := (0 : Int32)) rfl rfl ?_
    refine jw_aload_n (pc' := 27) rfl rfl ?_
    refine jw_aload_n (pc' := 28) rfl rfl ?_
    refine jw_cR (st := [vR 48 r1, vI (0 : Int32), vI (10 : Int32)]) (sa := [vR 41 r0]) okX8_negated rfl rfl rfl rfl rfl rfl (jstp_virtual (sa := []) (st := [vR 48 r1, vI (0 : Int32), vI (10 : Int32)]) (k := 0) rfl rfl sX8_negated okX8_negated g_1 (one41.k g_1) rfl rfl) w (fun v_14 h_12 _ _ _ w => ?_)
    refine jw_cR (st := []) (sa := [vI (10 : Int32), vI (0 : Int32), vR 48 r1, vR 48 v_14]) okX8_pair rfl rfl rfl rfl rfl rfl (jstp_static (sa := [vI (10 : Int32), vI (0 : Int32), vR 48 r1, vR 48 v_14]) (st := []) rfl rfl sX8_pair okX8_pair rfl rfl) w (fun v_17 h_15 _ _ _ w => ?_)
    refine jw_astore_n (pc' := 35) (ls' := [some (vR 41 r0), some (vR 48 v_17)]) rfl (by decide) rfl ?_
    refine jw_goto (pc' := 5) rfl rfl ?_
    exact hK5 _ _ _ w
def L_X8_both_5 (D : JD) (d : Nat) (Q : JO → JH → Prop) : Nat → Nat → Nat → JH → Prop
  | 0 => fun _ _ _ => False
  | n + 1 => fun r0 r1 h => W_X8_both_5 D d Q (L_X8_both_5 D d Q n) r0 r1 h
theorem l_X8_both_5 {D : JD} {d : Nat} {Q : JO → JH → Prop} : ∀ (n : Nat) (r0 : Nat) (r1 : Nat) (h : JH), L_X8_both_5 D d Q n r0 r1 h → JW D (d + 1) mX8_both 5 [some (vR 41 r0), some (vR 48 r1)] [] h Q := by
  intro n
  induction n with
  | zero => intro _ _ _ w; exact w.elim
  | succ n ih => intro _ _ h w; exact w_X8_both_5 ih w
def W_X8_both_0 (D : JD) (d : Nat) (Q : JO → JH → Prop) (r0 : Nat) (h : JH) : Prop :=
  r0 ≠ 0 ∧ (cX8_negated D d r0 h (pR D h 48 (fun v_4 h_2 => ∃ n, L_X8_both_5 D d Q n r0 v_4 h_2) (jth Q)))
theorem w_X8_both_0 {D : JD} {d : Nat} {Q : JO → JH → Prop} {r0 : Nat} {h : JH} (w : W_X8_both_0 D d Q r0 h) : JW D (d + 1) mX8_both 0 [some (vR 41 r0), none] [] h Q := by
  unfold W_X8_both_0 at w
  refine jw_aload_n (pc' := 1) rfl rfl ?_
  obtain ⟨g_1, w⟩ := w
  refine jw_cR (st := []) (sa := [vR 41 r0]) okX8_negated rfl rfl rfl rfl rfl rfl (jstp_virtual (sa := []) (st := []) (k := 0) rfl rfl sX8_negated okX8_negated g_1 (one41.k g_1) rfl rfl) w (fun v_4 h_2 _ _ _ w => ?_)
  refine jw_astore_n (pc' := 5) (ls' := [some (vR 41 r0), some (vR 48 v_4)]) rfl (by decide) rfl ?_
  obtain ⟨n, w⟩ := w
  exact l_X8_both_5 n _ _ _ w
def T_X8_both (D : JD) (d : Nat) (Q : JO → JH → Prop) (r0 : Nat) (h : JH) : Prop := W_X8_both_0 D d Q r0 h
theorem t_X8_both {D : JD} {d : Nat} {Q : JO → JH → Prop} {r0 : Nat} {h : JH} (w : T_X8_both D d Q r0 h) : cX8_both D (d + 1) r0 h Q := by
  unfold T_X8_both at w
  unfold cX8_both
  exact w_X8_both_0 w
def W_X8_negated_0 (D : JD) (d : Nat) (Q : JO → JH → Prop) (r0 : Nat) (h : JH) : Prop :=
  r0 ≠ 0 ∧ (cX8_is D d r0 (jcs D 243) h (pI D h (fun v_4 h_2 => (¬ v_4 = 0 → cX8_deeper D d r0 h_2 (pV D h_2 (fun h_6 => cX8_next D d r0 h_6 (pV D h_6 (fun h_9 => cX8_node D d (12 : Int32) (0 : Int32) h_9 (pR D h_9 48 (fun v_14 h_12 => cX8_negated D d r0 h_12 (pR D h_12 48 (fun v_17 h_15 => v_14 ≠ 0 ∧ (cX46_add D d v_14 v_17 h_15 (pV D h_15 (fun h_19 => ∀ h_22 : JH, h_22 = wfi h_19 189 r0 ((jfi h_19 189 r0) - (1 : Int32)) → (Q (.inl (some (vR 48 v_14))) h_22)) (jth Q)))) (jth Q))) (jth Q))) (jth Q))) (jth Q))) ∧ (v_4 = 0 → cX8_compared D d r0 h_2 (pR D h_2 48 (fun v_26 h_24 => Q (.inl (some (vR 48 v_26))) h_24) (jth Q)))) (jth Q)))
theorem w_X8_negated_0 {D : JD} {d : Nat} {Q : JO → JH → Prop} {r0 : Nat} {h : JH} (w : W_X8_negated_0 D d Q r0 h) : JW D (d + 1) mX8_negated 0 [some (vR 41 r0), none] [] h Q := by
  unfold W_X8_negated_0 at w
  refine jw_aload_n (pc' := 1) rfl rfl ?_
  refine jw_ldcwS (pc' := 4) rfl rfl rfl rfl ?_
  obtain ⟨g_1, w⟩ := w
  refine jw_cI (st := []) (sa := [vR 41 r0, vR 51 (jcs D 243)]) okX8_is rfl rfl rfl rfl rfl rfl (jstp_virtual (sa := [vR 51 (jcs D 243)]) (st := []) (k := 0) rfl rfl sX8_is okX8_is g_1 (one41.k g_1) rfl rfl) w (fun v_4 h_2 _ _ w => ?_)
  refine jw_if_ne (tgt := 15) (pc' := 10) rfl rfl (fun c_5 => ?_) (fun c_5 => ?_)
  · replace w := w.1 c_5
    refine jw_aload_n (pc' := 16) rfl rfl ?_
    refine jw_cV (st := []) (sa := [vR 41 r0]) okX8_deeper rfl rfl rfl rfl rfl rfl (jstp_virtual (sa := []) (st := []) (k := 0) rfl rfl sX8_deeper okX8_deeper g_1 (one41.k g_1) rfl rfl) w (fun h_6 _ _ w => ?_)
    refine jw_aload_n (pc' := 20) rfl rfl ?_
    refine jw_cV (st := []) (sa := [vR 41 r0]) okX8_next rfl rfl rfl rfl rfl rfl (jstp_virtual (sa := []) (st := []) (k := 0) rfl rfl sX8_next okX8_next g_1 (one41.k g_1) rfl rfl) w (fun h_9 _ _ w => ?_)
    refine jw_bipush (pc' := 25) (x := (12 : Int32)) rfl rfl ?_
    refine jw_iconst (pc' := 26) (x := (0 : Int32)) rfl rfl ?_
    refine jw_cR (st := []) (sa := [vI (12 : Int32), vI (0 : Int32)]) okX8_node rfl rfl rfl rfl rfl rfl (jstp_static (sa := [vI (12 : Int32), vI (0 : Int32)]) (st := []) rfl rfl sX8_node okX8_node rfl rfl) w (fun v_14 h_12 _ _ _ w => ?_)
    refine jw_astore_n (pc' := 30) (ls' := [some (vR 41 r0), some (vR 48 v_14)]) rfl (by decide) rfl ?_
    refine jw_aload_n (pc' := 31) rfl rfl ?_
    refine jw_aload_n (pc' := 32) rfl rfl ?_
    refine jw_cR (st := [vR 48 v_14]) (sa := [vR 41 r0]) okX8_negated rfl rfl rfl rfl rfl rfl (jstp_virtual (sa := []) (st := [vR 48 v_14]) (k := 0) rfl rfl sX8_negated okX8_negated g_1 (one41.k g_1) rfl rfl) w (fun v_17 h_15 _ _ _ w => ?_)
    obtain ⟨g_18, w⟩ := w
    refine jw_cV (st := []) (sa := [vR 48 v_14, vR 48 v_17]) okX46_add rfl rfl rfl rfl rfl rfl (jstp_virtual (sa := [vR 48 v_17]) (st := []) (k := 0) rfl rfl sX46_add okX46_add g_18 (one48.k g_18) rfl rfl) w (fun h_19 _ _ w => ?_)
    refine jw_aload_n (pc' := 39) rfl rfl ?_
    refine jw_dup (pc' := 40) rfl rfl ?_
    refine jw_getI (pc' := 43) (F := 189) rfl rfl rfl rfl g_1 ?_
    refine jw_iconst (pc' := 44) (x := (1 : Int32)) rfl rfl ?_
    refine jw_isub (pc' := 45) rfl ?_
    refine jw_putI' (pc' := 48) (F := 189) rfl rfl rfl (Or.inr rfl) (Or.inl rfl) rfl (rfl) (rfl) rfl g_1 (fun h_22 e_23 => ?_)
    replace w := w h_22 e_23
    refine jw_aload_n (pc' := 49) rfl rfl ?_
    exact jw_areturn rfl rfl rfl rfl rfl w
  · replace w := w.2 c_5
    refine jw_aload_n (pc' := 11) rfl rfl ?_
    refine jw_cR (st := []) (sa := [vR 41 r0]) okX8_compared rfl rfl rfl rfl rfl rfl (jstp_virtual (sa := []) (st := []) (k := 0) rfl rfl sX8_compared okX8_compared g_1 (one41.k g_1) rfl rfl) w (fun v_26 h_24 _ _ _ w => ?_)
    exact jw_areturn rfl rfl rfl rfl rfl w
def T_X8_negated (D : JD) (d : Nat) (Q : JO → JH → Prop) (r0 : Nat) (h : JH) : Prop := W_X8_negated_0 D d Q r0 h
theorem t_X8_negated {D : JD} {d : Nat} {Q : JO → JH → Prop} {r0 : Nat} {h : JH} (w : T_X8_negated D d Q r0 h) : cX8_negated D (d + 1) r0 h Q := by
  unfold T_X8_negated at w
  unfold cX8_negated
  exact w_X8_negated_0 w
def W_X8_compared_71 (D : JD) (d : Nat) (Q : JO → JH → Prop) (r0 : Nat) (r1 : Nat) (s0 : Int32) (s1 : Int32) (h : JH) : Prop :=
  cX8_node D d s0 s1 h (pR D h 48 (fun v_3 h_1 => r0 ≠ 0 ∧ (cX8_need D d r0 (jcs D 247) h_1 (pV D h_1 (fun h_5 => v_3 ≠ 0 ∧ (cX46_add D d v_3 r1 h_5 (pV D h_5 (fun h_9 => Q (.inl (some (vR 48 v_3))) h_9) (jth Q)))) (jth Q)))) (jth Q))
theorem w_X8_compared_71 {D : JD} {d : Nat} {Q : JO → JH → Prop} {r0 : Nat} {r1 : Nat} {s0 : Int32} {s1 : Int32} {h : JH} (w : W_X8_compared_71 D d Q r0 r1 s0 s1 h) : JW D (d + 1) mX8_compared 71 [some (vR 41 r0), some (vR 48 r1), none] [vI s1, vI s0] h Q := by
  unfold W_X8_compared_71 at w
  refine jw_cR (st := []) (sa := [vI s0, vI s1]) okX8_node rfl rfl rfl rfl rfl rfl (jstp_static (sa := [vI s0, vI s1]) (st := []) rfl rfl sX8_node okX8_node rfl rfl) w (fun v_3 h_1 _ _ _ w => ?_)
  refine jw_astore_n (pc' := 75) (ls' := [some (vR 41 r0), some (vR 48 r1), some (vR 48 v_3)]) rfl (by decide) rfl ?_
  refine jw_aload_n (pc' := 76) rfl rfl ?_
  refine jw_ldcwS (pc' := 79) rfl rfl rfl rfl ?_
  obtain ⟨g_4, w⟩ := w
  refine jw_cV (st := []) (sa := [vR 41 r0, vR 51 (jcs D 247)]) okX8_need rfl rfl rfl rfl rfl rfl (jstp_virtual (sa := [vR 51 (jcs D 247)]) (st := []) (k := 0) rfl rfl sX8_need okX8_need g_4 (one41.k g_4) rfl rfl) w (fun h_5 _ _ w => ?_)
  refine jw_aload_n (pc' := 83) rfl rfl ?_
  refine jw_aload_n (pc' := 84) rfl rfl ?_
  obtain ⟨g_8, w⟩ := w
  refine jw_cV (st := []) (sa := [vR 48 v_3, vR 48 r1]) okX46_add rfl rfl rfl rfl rfl rfl (jstp_virtual (sa := [vR 48 r1]) (st := []) (k := 0) rfl rfl sX46_add okX46_add g_8 (one48.k g_8) rfl rfl) w (fun h_9 _ _ w => ?_)
  refine jw_aload_n (pc' := 88) rfl rfl ?_
  exact jw_areturn rfl rfl rfl rfl rfl w
def W_X8_compared_7 (D : JD) (d : Nat) (Q : JO → JH → Prop) (K7 : Nat → Nat → Int32 → JH → Prop) (r0 : Nat) (r1 : Nat) (x2 : Int32) (h : JH) : Prop :=
  ((6 : Int32) ≤ x2 → r0 ≠ 0 ∧ (cX8_take D d r0 (jcs D 268) h (pI D h (fun v_5 h_3 => (v_5 = 0 → cX8_take D d r0 (jcs D 243) h_3 (pI D h_3 (fun v_9 h_7 => (¬ v_9 = 0 → cX8_node D d (12 : Int32) (0 : Int32) h_7 (pR D h_7 48 (fun v_13 h_11 => cX8_within D d r0 r1 (1 : Int32) h_11 (pR D h_11 48 (fun v_16 h_14 => v_13 ≠ 0 ∧ (cX46_add D d v_13 v_16 h_14 (pV D h_14 (fun h_18 => Q (.inl (some (vR 48 v_13))) h_18) (jth Q)))) (jth Q))) (jth Q))) ∧ (v_9 = 0 → cX8_within D d r0 r1 (0 : Int32) h_7 (pR D h_7 48 (fun v_23 h_21 => Q (.inl (some (vR 48 v_23))) h_21) (jth Q)))) (jth Q))) ∧ (¬ v_5 = 0 → cX8_take D d r0 (jcs D 243) h_3 (pI D h_3 (fun v_26 h_24 => (v_26 = 0 → W_X8_compared_71 D d Q r0 r1 (8 : Int32) (0 : Int32) h_24) ∧ (¬ v_26 = 0 → W_X8_compared_71 D d Q r0 r1 (8 : Int32) (1 : Int32) h_24)) (jth Q)))) (jth Q)))) ∧ (¬ (6 : Int32) ≤ x2 → r0 ≠ 0 ∧ ((jfr h 195 r0) ≠ 0 ∧ jin x2 (jln h (jfr h 195 r0)) ∧ (cX8_take D d r0 (jar h (jfr h 195 r0) (ixn x2)) h (pI D h (fun v_33 h_31 => (v_33 = 0 → K7 r0 r1 (x2 + (1 : Int32)) h_31) ∧ (¬ v_33 = 0 → cX8_sum D d r0 h_31 (pR D h_31 48 (fun v_37 h_35 => cX8_pair D d (9 : Int32) x2 r1 v_37 h_35 (pR D h_35 48 (fun v_40 h_38 => Q (.inl (some (vR 48 v_40))) h_38) (jth Q))) (jth Q)))) (jth Q)))))
theorem w_X8_compared_7 {D : JD} {d : Nat} {Q : JO → JH → Prop} {K7 : Nat → Nat → Int32 → JH → Prop} {r0 : Nat} {r1 : Nat} {x2 : Int32} {h : JH} (hK7 : ∀ (r0 : Nat) (r1 : Nat) (x2 : Int32) (h : JH), K7 r0 r1 x2 h → JW D (d + 1) mX8_compared 7 [some (vR 41 r0), some (vR 48 r1), some (vI x2)] [] h Q) (w : W_X8_compared_7 D d Q K7 r0 r1 x2 h) : JW D (d + 1) mX8_compared 7 [some (vR 41 r0), some (vR 48 r1), some (vI x2)] [] h Q := by
  unfold W_X8_compared_7 at w
  refine jw_iload_n (pc' := 8) rfl rfl ?_
  refine jw_bipush (pc' := 10) (x := (6 : Int32)) rfl rfl ?_
  refine jw_icmp_ge (tgt := 44) (pc' := 13) rfl rfl (fun c_1 => ?_) (fun c_1 => ?_)
  · replace w := w.1 c_1
    refine jw_aload_n (pc' := 45) rfl rfl ?_
    refine jw_ldcwS (pc' := 48) rfl rfl rfl rfl ?_
    obtain ⟨g_2, w⟩ := w
    refine jw_cI (st := []) (sa := [vR 41 r0, vR 51 (jcs D 268)]) okX8_take rfl rfl rfl rfl rfl rfl (jstp_virtual (sa := [vR 51 (jcs D 268)]) (st := []) (k := 0) rfl rfl sX8_take okX8_take g_2 (one41.k g_2) rfl rfl) w (fun v_5 h_3 _ _ w => ?_)
    refine jw_if_eq (tgt := 89) (pc' := 54) rfl rfl (fun c_6 => ?_) (fun c_6 => ?_)
    · replace w := w.1 c_6
      refine jw_aload_n (pc' := 90) rfl rfl ?_
      refine jw_ldcwS (pc' := 93) rfl rfl rfl rfl ?_
      refine jw_cI (st := []) (sa := [vR 41 r0, vR 51 (jcs D 243)]) okX8_take rfl rfl rfl rfl rfl rfl (jstp_virtual (sa := [vR 51 (jcs D 243)]) (st := []) (k := 0) rfl rfl sX8_take okX8_take g_2 (one41.k g_2) rfl rfl) w (fun v_9 h_7 _ _ w => ?_)
      refine jw_if_ne (tgt := 106) (pc' := 99) rfl rfl (fun c_10 => ?_) (fun c_10 => ?_)
      · replace w := w.1 c_10
        refine jw_bipush (pc' := 108) (x := (12 : Int32)) rfl rfl ?_
        refine jw_iconst (pc' := 109) (x := (0 : Int32)) rfl rfl ?_
        refine jw_cR (st := []) (sa := [vI (12 : Int32), vI (0 : Int32)]) okX8_node rfl rfl rfl rfl rfl rfl (jstp_static (sa := [vI (12 : Int32), vI (0 : Int32)]) (st := []) rfl rfl sX8_node okX8_node rfl rfl) w (fun v_13 h_11 _ _ _ w => ?_)
        refine jw_astore_n (pc' := 113) (ls' := [some (vR 41 r0), some (vR 48 r1), some (vR 48 v_13)]) rfl (by decide) rfl ?_
        refine jw_aload_n (pc' := 114) rfl rfl ?_
        refine jw_aload_n (pc' := 115) rfl rfl ?_
        refine jw_aload_n (pc' := 116) rfl rfl ?_
        refine jw_iconst (pc' := 117) (x := (1 : Int32)) rfl rfl ?_
        refine jw_cR (st := [vR 48 v_13]) (sa := [vR 41 r0, vR 48 r1, vI (1 : Int32)]) okX8_within rfl rfl rfl rfl rfl rfl (jstp_virtual (sa := [vR 48 r1, vI (1 : Int32)]) (st := [vR 48 v_13]) (k := 0) rfl rfl sX8_within okX8_within g_2 (one41.k g_2) rfl rfl) w (fun v_16 h_14 _ _ _ w => ?_)
        obtain ⟨g_17, w⟩ := w
        refine jw_cV (st := []) (sa := [vR 48 v_13, vR 48 v_16]) okX46_add rfl rfl rfl rfl rfl rfl (jstp_virtual (sa := [vR 48 v_16]) (st := []) (k := 0) rfl rfl sX46_add okX46_add g_17 (one48.k g_17) rfl rfl) w (fun h_18 _ _ w => ?_)
        refine jw_aload_n (pc' := 124) rfl rfl ?_
        exact jw_areturn rfl rfl rfl rfl rfl w
      · replace w := w.2 c_10
        refine jw_aload_n (pc' := 100) rfl rfl ?_
        refine jw_aload_n (pc' := 101) rfl rfl ?_
        refine jw_iconst (pc' := 102) (x := (0 : Int32)) rfl rfl ?_
        refine jw_cR (st := []) (sa := [vR 41 r0, vR 48 r1, vI (0 : Int32)]) okX8_within rfl rfl rfl rfl rfl rfl (jstp_virtual (sa := [vR 48 r1, vI (0 : Int32)]) (st := []) (k := 0) rfl rfl sX8_within okX8_within g_2 (one41.k g_2) rfl rfl) w (fun v_23 h_21 _ _ _ w => ?_)
        exact jw_areturn rfl rfl rfl rfl rfl w
    · replace w := w.2 c_6
      refine jw_bipush (pc' := 56) (x := (8 : Int32)) rfl rfl ?_
      refine jw_aload_n (pc' := 57) rfl rfl ?_
      refine jw_ldcwS (pc' := 60) rfl rfl rfl rfl ?_
      refine jw_cI (st := [vI (8 : Int32)]) (sa := [vR 41 r0, vR 51 (jcs D 243)]) okX8_take rfl rfl rfl rfl rfl rfl (jstp_virtual (sa := [vR 51 (jcs D 243)]) (st := [vI (8 : Int32)]) (k := 0) rfl rfl sX8_take okX8_take g_2 (one41.k g_2) rfl rfl) w (fun v_26 h_24 _ _ w => ?_)
      refine jw_if_eq (tgt := 70) (pc' := 66) rfl rfl (fun c_27 => ?_) (fun c_27 => ?_)
      · replace w := w.1 c_27
        refine jw_iconst (pc' := 71) (x := (0 : Int32)) rfl rfl ?_
        refine jw_gen (ls' := [some (vR 41 r0), some (vR 48 r1), none]) (st' := [vI (0 : Int32), vI (8 : Int32)]) (And.intro (Or.inl rfl) (And.intro (Or.inl rfl) (trivial))) (And.intro (Or.inl rfl) (And.intro (Or.inl rfl) (trivial))) ?_
        exact w_X8_compared_71 w
      · replace w := w.2 c_27
        refine jw_iconst (pc' := 67) (x := (1 : Int32)) rfl rfl ?_
        refine jw_goto (pc' := 71) rfl rfl ?_
        refine jw_gen (ls' := [some (vR 41 r0), some (vR 48 r1), none]) (st' := [vI (1 : Int32), vI (8 : Int32)]) (And.intro (Or.inl rfl) (And.intro (Or.inl rfl) (trivial))) (And.intro (Or.inl rfl) (And.intro (Or.inl rfl) (trivial))) ?_
        exact w_X8_compared_71 w
  · replace w := w.2 c_1
    refine jw_aload_n (pc' := 14) rfl rfl ?_
    refine jw_aload_n (pc' := 15) rfl rfl ?_
    obtain ⟨g_28, w⟩ := w
    refine jw_getR (pc' := 18) (F := 195) (t' := 83) rfl rfl rfl rfl rfl g_28 ?_
    refine jw_iload_n (pc' := 19) rfl rfl ?_
    obtain ⟨g_29, w⟩ := w
    obtain ⟨g_30, w⟩ := w
    refine jw_aald (pc' := 20) (t' := 64) rfl rfl rfl rfl g_29 g_30.ix g_30.2 ?_
    refine jw_cI (st := []) (sa := [vR 41 r0, vR 64 (jar h (jfr h 195 r0) (ixn x2))]) okX8_take rfl rfl rfl rfl rfl rfl (jstp_virtual (sa := [vR 64 (jar h (jfr h 195 r0) (ixn x2))]) (st := []) (k := 0) rfl rfl sX8_take okX8_take g_28 (one41.k g_28) rfl rfl) w (fun v_33 h_31 _ _ w => ?_)
    refine jw_if_eq (tgt := 38) (pc' := 26) rfl rfl (fun c_34 => ?_) (fun c_34 => ?_)
    · replace w := w.1 c_34
      refine jw_iinc (pc' := 41) (y := x2 + (1 : Int32)) (ls' := [some (vR 41 r0), some (vR 48 r1), some (vI (x2 + (1 : Int32)))]) rfl (by decide) rfl rfl rfl ?_
      refine jw_goto (pc' := 7) rfl rfl ?_
      exact hK7 _ _ _ _ w
    · replace w := w.2 c_34
      refine jw_bipush (pc' := 28) (x := (9 : Int32)) rfl rfl ?_
      refine jw_iload_n (pc' := 29) rfl rfl ?_
      refine jw_aload_n (pc' := 30) rfl rfl ?_
      refine jw_aload_n (pc' := 31) rfl rfl ?_
      refine jw_cR (st := [vR 48 r1, vI x2, vI (9 : Int32)]) (sa := [vR 41 r0]) okX8_sum rfl rfl rfl rfl rfl rfl (jstp_virtual (sa := []) (st := [vR 48 r1, vI x2, vI (9 : Int32)]) (k := 0) rfl rfl sX8_sum okX8_sum g_28 (one41.k g_28) rfl rfl) w (fun v_37 h_35 _ _ _ w => ?_)
      refine jw_cR (st := []) (sa := [vI (9 : Int32), vI x2, vR 48 r1, vR 48 v_37]) okX8_pair rfl rfl rfl rfl rfl rfl (jstp_static (sa := [vI (9 : Int32), vI x2, vR 48 r1, vR 48 v_37]) (st := []) rfl rfl sX8_pair okX8_pair rfl rfl) w (fun v_40 h_38 _ _ _ w => ?_)
      exact jw_areturn rfl rfl rfl rfl rfl w
def L_X8_compared_7 (D : JD) (d : Nat) (Q : JO → JH → Prop) : Nat → Nat → Nat → Int32 → JH → Prop
  | 0 => fun _ _ _ _ => False
  | n + 1 => fun r0 r1 x2 h => W_X8_compared_7 D d Q (L_X8_compared_7 D d Q n) r0 r1 x2 h
theorem l_X8_compared_7 {D : JD} {d : Nat} {Q : JO → JH → Prop} : ∀ (n : Nat) (r0 : Nat) (r1 : Nat) (x2 : Int32) (h : JH), L_X8_compared_7 D d Q n r0 r1 x2 h → JW D (d + 1) mX8_compared 7 [some (vR 41 r0), some (vR 48 r1), some (vI x2)] [] h Q := by
  intro n
  induction n with
  | zero => intro _ _ _ _ w; exact w.elim
  | succ n ih => intro _ _ _ h w; exact w_X8_compared_7 ih w
def W_X8_compared_0 (D : JD) (d : Nat) (Q : JO → JH → Prop) (r0 : Nat) (h : JH) : Prop :=
  r0 ≠ 0 ∧ (cX8_sum D d r0 h (pR D h 48 (fun v_4 h_2 => ∃ n, L_X8_compared_7 D d Q n r0 v_4 (0 : Int32) h_2) (jth Q)))
theorem w_X8_compared_0 {D : JD} {d : Nat} {Q : JO → JH → Prop} {r0 : Nat} {h : JH} (w : W_X8_compared_0 D d Q r0 h) : JW D (d + 1) mX8_compared 0 [some (vR 41 r0), none, none] [] h Q := by
  unfold W_X8_compared_0 at w
  refine jw_aload_n (pc' := 1) rfl rfl ?_
  obtain ⟨g_1, w⟩ := w
  refine jw_cR (st := []) (sa := [vR 41 r0]) okX8_sum rfl rfl rfl rfl rfl rfl (jstp_virtual (sa := []) (st := []) (k := 0) rfl rfl sX8_sum okX8_sum g_1 (one41.k g_1) rfl rfl) w (fun v_4 h_2 _ _ _ w => ?_)
  refine jw_astore_n (pc' := 5) (ls' := [some (vR 41 r0), some (vR 48 v_4), none]) rfl (by decide) rfl ?_
  refine jw_iconst (pc' := 6) (x := (0 : Int32)) rfl rfl ?_
  refine jw_istore_n (pc' := 7) (ls' := [some (vR 41 r0), some (vR 48 v_4), some (vI (0 : Int32))]) rfl (by decide) rfl ?_
  obtain ⟨n, w⟩ := w
  exact l_X8_compared_7 n _ _ _ _ w
def T_X8_compared (D : JD) (d : Nat) (Q : JO → JH → Prop) (r0 : Nat) (h : JH) : Prop := W_X8_compared_0 D d Q r0 h
theorem t_X8_compared {D : JD} {d : Nat} {Q : JO → JH → Prop} {r0 : Nat} {h : JH} (w : T_X8_compared D d Q r0 h) : cX8_compared D (d + 1) r0 h Q := by
  unfold T_X8_compared at w
  unfold cX8_compared
  exact w_X8_compared_0 w
def W_X8_sum_68 (D : JD) (d : Nat) (Q : JO → JH → Prop) (K5 : Nat → Nat → JH → Prop) (r0 : Nat) (r1 : Nat) (s0 : Int32) (h : JH) : Prop :=
  r0 ≠ 0 ∧ (cX8_next D d r0 h (pV D h (fun h_2 => cX8_term D d r0 h_2 (pR D h_2 48 (fun v_7 h_5 => cX8_pair D d (14 : Int32) s0 r1 v_7 h_5 (pR D h_5 48 (fun v_10 h_8 => K5 r0 v_10 h_8) (jth Q))) (jth Q))) (jth Q)))
theorem w_X8_sum_68 {D : JD} {d : Nat} {Q : JO → JH → Prop} {K5 : Nat → Nat → JH → Prop} {r0 : Nat} {r1 : Nat} {s0 : Int32} {h : JH} (hK5 : ∀ (r0 : Nat) (r1 : Nat) (h : JH), K5 r0 r1 h → JW D (d + 1) mX8_sum 5 [some (vR 41 r0), some (vR 48 r1), none] [] h Q) (w : W_X8_sum_68 D d Q K5 r0 r1 s0 h) : JW D (d + 1) mX8_sum 68 [some (vR 41 r0), some (vR 48 r1), none] [vI s0] h Q := by
  unfold W_X8_sum_68 at w
  refine jw_istore_n (pc' := 69) (ls' := [some (vR 41 r0), some (vR 48 r1), some (vI s0)]) rfl (by decide) rfl ?_
  refine jw_aload_n (pc' := 70) rfl rfl ?_
  obtain ⟨g_1, w⟩ := w
  refine jw_cV (st := []) (sa := [vR 41 r0]) okX8_next rfl rfl rfl rfl rfl rfl (jstp_virtual (sa := []) (st := []) (k := 0) rfl rfl sX8_next okX8_next g_1 (one41.k g_1) rfl rfl) w (fun h_2 _ _ w => ?_)
  refine jw_bipush (pc' := 75) (x := (14 : Int32)) rfl rfl ?_
  refine jw_iload_n (pc' := 76) rfl rfl ?_
  refine jw_aload_n (pc' := 77) rfl rfl ?_
  refine jw_aload_n (pc' := 78) rfl rfl ?_
  refine jw_cR (st := [vR 48 r1, vI s0, vI (14 : Int32)]) (sa := [vR 41 r0]) okX8_term rfl rfl rfl rfl rfl rfl (jstp_virtual (sa := []) (st := [vR 48 r1, vI s0, vI (14 : Int32)]) (k := 0) rfl rfl sX8_term okX8_term g_1 (one41.k g_1) rfl rfl) w (fun v_7 h_5 _ _ _ w => ?_)
  refine jw_cR (st := []) (sa := [vI (14 : Int32), vI s0, vR 48 r1, vR 48 v_7]) okX8_pair rfl rfl rfl rfl rfl rfl (jstp_static (sa := [vI (14 : Int32), vI s0, vR 48 r1, vR 48 v_7]) (st := []) rfl rfl sX8_pair okX8_pair rfl rfl) w (fun v_10 h_8 _ _ _ w => ?_)
  refine jw_astore_n (pc' := 85) (ls' := [some (vR 41 r0), some (vR 48 v_10), some (vI s0)]) rfl (by decide) rfl ?_
  refine jw_goto (pc' := 5) rfl rfl ?_
  refine jw_gen (ls' := [some (vR 41 r0), some (vR 48 v_10), none]) (st' := []) (And.intro (Or.inl rfl) (And.intro (Or.inl rfl) (trivial))) (trivial) ?_
  exact hK5 _ _ _ w
def W_X8_sum_35 (D : JD) (d : Nat) (Q : JO → JH → Prop) (K5 : Nat → Nat → JH → Prop) (r0 : Nat) (r1 : Nat) (h : JH) : Prop :=
  r0 ≠ 0 ∧ (cX8_operator D d r0 h (pV D h (fun h_2 => cX8_is D d r0 (jcs D 266) h_2 (pI D h_2 (fun v_7 h_5 => (v_7 = 0 → cX8_is D d r0 (jcs D 254) h_5 (pI D h_5 (fun v_11 h_9 => (v_11 = 0 → W_X8_sum_68 D d Q K5 r0 r1 (5 : Int32) h_9) ∧ (¬ v_11 = 0 → W_X8_sum_68 D d Q K5 r0 r1 (1 : Int32) h_9)) (jth Q))) ∧ (¬ v_7 = 0 → W_X8_sum_68 D d Q K5 r0 r1 (0 : Int32) h_5)) (jth Q))) (jth Q)))
theorem w_X8_sum_35 {D : JD} {d : Nat} {Q : JO → JH → Prop} {K5 : Nat → Nat → JH → Prop} {r0 : Nat} {r1 : Nat} {h : JH} (hK5 : ∀ (r0 : Nat) (r1 : Nat) (h : JH), K5 r0 r1 h → JW D (d + 1) mX8_sum 5 [some (vR 41 r0), some (vR 48 r1), none] [] h Q) (w : W_X8_sum_35 D d Q K5 r0 r1 h) : JW D (d + 1) mX8_sum 35 [some (vR 41 r0), some (vR 48 r1), none] [] h Q := by
  unfold W_X8_sum_35 at w
  refine jw_aload_n (pc' := 36) rfl rfl ?_
  obtain ⟨g_1, w⟩ := w
  refine jw_cV (st := []) (sa := [vR 41 r0]) okX8_operator rfl rfl rfl rfl rfl rfl (jstp_virtual (sa := []) (st := []) (k := 0) rfl rfl sX8_operator okX8_operator g_1 (one41.k g_1) rfl rfl) w (fun h_2 _ _ w => ?_)
  refine jw_aload_n (pc' := 40) rfl rfl ?_
  refine jw_ldcwS (pc' := 43) rfl rfl rfl rfl ?_
  refine jw_cI (st := []) (sa := [vR 41 r0, vR 51 (jcs D 266)]) okX8_is rfl rfl rfl rfl rfl rfl (jstp_virtual (sa := [vR 51 (jcs D 266)]) (st := []) (k := 0) rfl rfl sX8_is okX8_is g_1 (one41.k g_1) rfl rfl) w (fun v_7 h_5 _ _ w => ?_)
  refine jw_if_eq (tgt := 53) (pc' := 49) rfl rfl (fun c_8 => ?_) (fun c_8 => ?_)
  · replace w := w.1 c_8
    refine jw_aload_n (pc' := 54) rfl rfl ?_
    refine jw_ldcwS (pc' := 57) rfl rfl rfl rfl ?_
    refine jw_cI (st := []) (sa := [vR 41 r0, vR 51 (jcs D 254)]) okX8_is rfl rfl rfl rfl rfl rfl (jstp_virtual (sa := [vR 51 (jcs D 254)]) (st := []) (k := 0) rfl rfl sX8_is okX8_is g_1 (one41.k g_1) rfl rfl) w (fun v_11 h_9 _ _ w => ?_)
    refine jw_if_eq (tgt := 67) (pc' := 63) rfl rfl (fun c_12 => ?_) (fun c_12 => ?_)
    · replace w := w.1 c_12
      refine jw_iconst (pc' := 68) (x := (5 : Int32)) rfl rfl ?_
      exact w_X8_sum_68 hK5 w
    · replace w := w.2 c_12
      refine jw_iconst (pc' := 64) (x := (1 : Int32)) rfl rfl ?_
      refine jw_goto (pc' := 68) rfl rfl ?_
      exact w_X8_sum_68 hK5 w
  · replace w := w.2 c_8
    refine jw_iconst (pc' := 50) (x := (0 : Int32)) rfl rfl ?_
    refine jw_goto (pc' := 68) rfl rfl ?_
    exact w_X8_sum_68 hK5 w
def W_X8_sum_5 (D : JD) (d : Nat) (Q : JO → JH → Prop) (K5 : Nat → Nat → JH → Prop) (r0 : Nat) (r1 : Nat) (h : JH) : Prop :=
  r0 ≠ 0 ∧ (cX8_is D d r0 (jcs D 266) h (pI D h (fun v_4 h_2 => (¬ v_4 = 0 → W_X8_sum_35 D d Q K5 r0 r1 h_2) ∧ (v_4 = 0 → cX8_is D d r0 (jcs D 254) h_2 (pI D h_2 (fun v_8 h_6 => (¬ v_8 = 0 → W_X8_sum_35 D d Q K5 r0 r1 h_6) ∧ (v_8 = 0 → cX8_is D d r0 (jcs D 267) h_6 (pI D h_6 (fun v_12 h_10 => (v_12 = 0 → Q (.inl (some (vR 48 r1))) h_10) ∧ (¬ v_12 = 0 → W_X8_sum_35 D d Q K5 r0 r1 h_10)) (jth Q)))) (jth Q)))) (jth Q)))
theorem w_X8_sum_5 {D : JD} {d : Nat} {Q : JO → JH → Prop} {K5 : Nat → Nat → JH → Prop} {r0 : Nat} {r1 : Nat} {h : JH} (hK5 : ∀ (r0 : Nat) (r1 : Nat) (h : JH), K5 r0 r1 h → JW D (d + 1) mX8_sum 5 [some (vR 41 r0), some (vR 48 r1), none] [] h Q) (w : W_X8_sum_5 D d Q K5 r0 r1 h) : JW D (d + 1) mX8_sum 5 [some (vR 41 r0), some (vR 48 r1), none] [] h Q := by
  unfold W_X8_sum_5 at w
  refine jw_aload_n (pc' := 6) rfl rfl ?_
  refine jw_ldcwS (pc' := 9) rfl rfl rfl rfl ?_
  obtain ⟨g_1, w⟩ := w
  refine jw_cI (st := []) (sa := [vR 41 r0, vR 51 (jcs D 266)]) okX8_is rfl rfl rfl rfl rfl rfl (jstp_virtual (sa := [vR 51 (jcs D 266)]) (st := []) (k := 0) rfl rfl sX8_is okX8_is g_1 (one41.k g_1) rfl rfl) w (fun v_4 h_2 _ _ w => ?_)
  refine jw_if_ne (tgt := 35) (pc' := 15) rfl rfl (fun c_5 => ?_) (fun c_5 => ?_)
  · replace w := w.1 c_5
    exact w_X8_sum_35 hK5 w
  · replace w := w.2 c_5
    refine jw_aload_n (pc' := 16) rfl rfl ?_
    refine jw_ldcwS (pc' := 19) rfl rfl rfl rfl ?_
    refine jw_cI (st := []) (sa := [vR 41 r0, vR 51 (jcs D 254)]) okX8_is rfl rfl rfl rfl rfl rfl (jstp_virtual (sa := [vR 51 (jcs D 254)]) (st := []) (k := 0) rfl rfl sX8_is okX8_is g_1 (one41.k g_1) rfl rfl) w (fun v_8 h_6 _ _ w => ?_)
    refine jw_if_ne (tgt := 35) (pc' := 25) rfl rfl (fun c_9 => ?_) (fun c_9 => ?_)
    · replace w := w.1 c_9
      exact w_X8_sum_35 hK5 w
    · replace w := w.2 c_9
      refine jw_aload_n (pc' := 26) rfl rfl ?_
      refine jw_ldcwS (pc' := 29) rfl rfl rfl rfl ?_
      refine jw_cI (st := []) (sa := [vR 41 r0, vR 51 (jcs D 267)]) okX8_is rfl rfl rfl rfl rfl rfl (jstp_virtual (sa := [vR 51 (jcs D 267)]) (st := []) (k := 0) rfl rfl sX8_is okX8_is g_1 (one41.k g_1) rfl rfl) w (fun v_12 h_10 _ _ w => ?_)
      refine jw_if_eq (tgt := 88) (pc' := 35) rfl rfl (fun c_13 => ?_) (fun c_13 => ?_)
      · replace w := w.1 c_13
        refine jw_aload_n (pc' := 89) rfl rfl ?_
        exact jw_areturn rfl rfl rfl rfl rfl w
      · replace w := w.2 c_13
        exact w_X8_sum_35 hK5 w
def L_X8_sum_5 (D : JD) (d : Nat) (Q : JO → JH → Prop) : Nat → Nat → Nat → JH → Prop
  | 0 => fun _ _ _ => False
  | n + 1 => fun r0 r1 h => W_X8_sum_5 D d Q (L_X8_sum_5 D d Q n) r0 r1 h
theorem l_X8_sum_5 {D : JD} {d : Nat} {Q : JO → JH → Prop} : ∀ (n : Nat) (r0 : Nat) (r1 : Nat) (h : JH), L_X8_sum_5 D d Q n r0 r1 h → JW D (d + 1) mX8_sum 5 [some (vR 41 r0), some (vR 48 r1), none] [] h Q := by
  intro n
  induction n with
  | zero => intro _ _ _ w; exact w.elim
  | succ n ih => intro _ _ h w; exact w_X8_sum_5 ih w
def W_X8_sum_0 (D : JD) (d : Nat) (Q : JO → JH → Prop) (r0 : Nat) (h : JH) : Prop :=
  r0 ≠ 0 ∧ (cX8_term D d r0 h (pR D h 48 (fun v_4 h_2 => ∃ n, L_X8_sum_5 D d Q n r0 v_4 h_2) (jth Q)))
theorem w_X8_sum_0 {D : JD} {d : Nat} {Q : JO → JH → Prop} {r0 : Nat} {h : JH} (w : W_X8_sum_0 D d Q r0 h) : JW D (d + 1) mX8_sum 0 [some (vR 41 r0), none, none] [] h Q := by
  unfold W_X8_sum_0 at w
  refine jw_aload_n (pc' := 1) rfl rfl ?_
  obtain ⟨g_1, w⟩ := w
  refine jw_cR (st := []) (sa := [vR 41 r0]) okX8_term rfl rfl rfl rfl rfl rfl (jstp_virtual (sa := []) (st := []) (k := 0) rfl rfl sX8_term okX8_term g_1 (one41.k g_1) rfl rfl) w (fun v_4 h_2 _ _ _ w => ?_)
  refine jw_astore_n (pc' := 5) (ls' := [some (vR 41 r0), some (vR 48 v_4), none]) rfl (by decide) rfl ?_
  obtain ⟨n, w⟩ := w
  exact l_X8_sum_5 n _ _ _ w
def T_X8_sum (D : JD) (d : Nat) (Q : JO → JH → Prop) (r0 : Nat) (h : JH) : Prop := W_X8_sum_0 D d Q r0 h
theorem t_X8_sum {D : JD} {d : Nat} {Q : JO → JH → Prop} {r0 : Nat} {h : JH} (w : T_X8_sum D d Q r0 h) : cX8_sum D (d + 1) r0 h Q := by
  unfold T_X8_sum at w
  unfold cX8_sum
  exact w_X8_sum_0 w
def W_X8_term_68 (D : JD) (d : Nat) (Q : JO → JH → Prop) (K5 : Nat → Nat → JH → Prop) (r0 : Nat) (r1 : Nat) (s0 : Int32) (h : JH) : Prop :=
  r0 ≠ 0 ∧ (cX8_next D d r0 h (pV D h (fun h_2 => cX8_unary D d r0 h_2 (pR D h_2 48 (fun v_7 h_5 => cX8_pair D d (14 : Int32) s0 r1 v_7 h_5 (pR D h_5 48 (fun v_10 h_8 => K5 r0 v_10 h_8) (jth Q))) (jth Q))) (jth Q)))
theorem w_X8_term_68 {D : JD} {d : Nat} {Q : JO → JH → Prop} {K5 : Nat → Nat → JH → Prop} {r0 : Nat} {r1 : Nat} {s0 : Int32} {h : JH} (hK5 : ∀ (r0 : Nat) (r1 : Nat) (h : JH), K5 r0 r1 h → JW D (d + 1) mX8_term 5 [some (vR 41 r0), some (vR 48 r1), none] [] h Q) (w : W_X8_term_68 D d Q K5 r0 r1 s0 h) : JW D (d + 1) mX8_term 68 [some (vR 41 r0), some (vR 48 r1), none] [vI s0] h Q := by
  unfold W_X8_term_68 at w
  refine jw_istore_n (pc' := 69) (ls' := [some (vR 41 r0), some (vR 48 r1), some (vI s0)]) rfl (by decide) rfl ?_
  refine jw_aload_n (pc' := 70) rfl rfl ?_
  obtain ⟨g_1, w⟩ := w
  refine jw_cV (st := []) (sa := [vR 41 r0]) okX8_next rfl rfl rfl rfl rfl rfl (jstp_virtual (sa := []) (st := []) (k := 0) rfl rfl sX8_next okX8_next g_1 (one41.k g_1) rfl rfl) w (fun h_2 _ _ w => ?_)
  refine jw_bipush (pc' := 75) (x := (14 : Int32)) rfl rfl ?_
  refine jw_iload_n (pc' := 76) rfl rfl ?_
  refine jw_aload_n (pc' := 77) rfl rfl ?_
  refine jw_aload_n (pc' := 78) rfl rfl ?_
  refine jw_cR (st := [vR 48 r1, vI s0, vI (14 : Int32)]) (sa := [vR 41 r0]) okX8_unary rfl rfl rfl rfl rfl rfl (jstp_virtual (sa := []) (st := [vR 48 r1, vI s0, vI (14 : Int32)]) (k := 0) rfl rfl sX8_unary okX8_unary g_1 (one41.k g_1) rfl rfl) w (fun v_7 h_5 _ _ _ w => ?_)
  refine jw_cR (st := []) (sa := [vI (14 : Int32), vI s0, vR 48 r1, vR 48 v_7]) okX8_pair rfl rfl rfl rfl rfl rfl (jstp_static (sa := [vI (14 : Int32), vI s0, vR 48 r1, vR 48 v_7]) (st := []) rfl rfl sX8_pair okX8_pair rfl rfl) w (fun v_10 h_8 _ _ _ w => ?_)
  refine jw_astore_n (pc' := 85) (ls' := [some (vR 41 r0), some (vR 48 v_10), some (vI s0)]) rfl (by decide) rfl ?_
  refine jw_goto (pc' := 5) rfl rfl ?_
  refine jw_gen (ls' := [some (vR 41 r0), some (vR 48 v_10), none]) (st' := []) (And.intro (Or.inl rfl) (And.intro (Or.inl rfl) (trivial))) (trivial) ?_
  exact hK5 _ _ _ w
def W_X8_term_35 (D : JD) (d : Nat) (Q : JO → JH → Prop) (K5 : Nat → Nat → JH → Prop) (r0 : Nat) (r1 : Nat) (h : JH) : Prop :=
  r0 ≠ 0 ∧ (cX8_operator D d r0 h (pV D h (fun h_2 => cX8_is D d r0 (jcs D 262) h_2 (pI D h_2 (fun v_7 h_5 => (v_7 = 0 → cX8_is D d r0 (jcs D 264) h_5 (pI D h_5 (fun v_11 h_9 => (v_11 = 0 → W_X8_term_68 D d Q K5 r0 r1 (4 : Int32) h_9) ∧ (¬ v_11 = 0 → W_X8_term_68 D d Q K5 r0 r1 (3 : Int32) h_9)) (jth Q))) ∧ (¬ v_7 = 0 → W_X8_term_68 D d Q K5 r0 r1 (2 : Int32) h_5)) (jth Q))) (jth Q)))
theorem w_X8_term_35 {D : JD} {d : Nat} {Q : JO → JH → Prop} {K5 : Nat → Nat → JH → Prop} {r0 : Nat} {r1 : Nat} {h : JH} (hK5 : ∀ (r0 : Nat) (r1 : Nat) (h : JH), K5 r0 r1 h → JW D (d + 1) mX8_term 5 [some (vR 41 r0), some (vR 48 r1), none] [] h Q) (w : W_X8_term_35 D d Q K5 r0 r1 h) : JW D (d + 1) mX8_term 35 [some (vR 41 r0), some (vR 48 r1), none] [] h Q := by
  unfold W_X8_term_35 at w
  refine jw_aload_n (pc' := 36) rfl rfl ?_
  obtain ⟨g_1, w⟩ := w
  refine jw_cV (st := []) (sa := [vR 41 r0]) okX8_operator rfl rfl rfl rfl rfl rfl (jstp_virtual (sa := []) (st := []) (k := 0) rfl rfl sX8_operator okX8_operator g_1 (one41.k g_1) rfl rfl) w (fun h_2 _ _ w => ?_)
  refine jw_aload_n (pc' := 40) rfl rfl ?_
  refine jw_ldcwS (pc' := 43) rfl rfl rfl rfl ?_
  refine jw_cI (st := []) (sa := [vR 41 r0, vR 51 (jcs D 262)]) okX8_is rfl rfl rfl rfl rfl rfl (jstp_virtual (sa := [vR 51 (jcs D 262)]) (st := []) (k := 0) rfl rfl sX8_is okX8_is g_1 (one41.k g_1) rfl rfl) w (fun v_7 h_5 _ _ w => ?_)
  refine jw_if_eq (tgt := 53) (pc' := 49) rfl rfl (fun c_8 => ?_) (fun c_8 => ?_)
  · replace w := w.1 c_8
    refine jw_aload_n (pc' := 54) rfl rfl ?_
    refine jw_ldcwS (pc' := 57) rfl rfl rfl rfl ?_
    refine jw_cI (st := []) (sa := [vR 41 r0, vR 51 (jcs D 264)]) okX8_is rfl rfl rfl rfl rfl rfl (jstp_virtual (sa := [vR 51 (jcs D 264)]) (st := []) (k := 0) rfl rfl sX8_is okX8_is g_1 (one41.k g_1) rfl rfl) w (fun v_11 h_9 _ _ w => ?_)
    refine jw_if_eq (tgt := 67) (pc' := 63) rfl rfl (fun c_12 => ?_) (fun c_12 => ?_)
    · replace w := w.1 c_12
      refine jw_iconst (pc' := 68) (x := (4 : Int32)) rfl rfl ?_
      exact w_X8_term_68 hK5 w
    · replace w := w.2 c_12
      refine jw_iconst (pc' := 64) (x := (3 : Int32)) rfl rfl ?_
      refine jw_goto (pc' := 68) rfl rfl ?_
      exact w_X8_term_68 hK5 w
  · replace w := w.2 c_8
    refine jw_iconst (pc' := 50) (x := (2 : Int32)) rfl rfl ?_
    refine jw_goto (pc' := 68) rfl rfl ?_
    exact w_X8_term_68 hK5 w
def W_X8_term_5 (D : JD) (d : Nat) (Q : JO → JH → Prop) (K5 : Nat → Nat → JH → Prop) (r0 : Nat) (r1 : Nat) (h : JH) : Prop :=
  r0 ≠ 0 ∧ (cX8_is D d r0 (jcs D 262) h (pI D h (fun v_4 h_2 => (¬ v_4 = 0 → W_X8_term_35 D d Q K5 r0 r1 h_2) ∧ (v_4 = 0 → cX8_is D d r0 (jcs D 264) h_2 (pI D h_2 (fun v_8 h_6 => (¬ v_8 = 0 → W_X8_term_35 D d Q K5 r0 r1 h_6) ∧ (v_8 = 0 → cX8_is D d r0 (jcs D 265) h_6 (pI D h_6 (fun v_12 h_10 => (v_12 = 0 → Q (.inl (some (vR 48 r1))) h_10) ∧ (¬ v_12 = 0 → W_X8_term_35 D d Q K5 r0 r1 h_10)) (jth Q)))) (jth Q)))) (jth Q)))
theorem w_X8_term_5 {D : JD} {d : Nat} {Q : JO → JH → Prop} {K5 : Nat → Nat → JH → Prop} {r0 : Nat} {r1 : Nat} {h : JH} (hK5 : ∀ (r0 : Nat) (r1 : Nat) (h : JH), K5 r0 r1 h → JW D (d + 1) mX8_term 5 [some (vR 41 r0), some (vR 48 r1), none] [] h Q) (w : W_X8_term_5 D d Q K5 r0 r1 h) : JW D (d + 1) mX8_term 5 [some (vR 41 r0), some (vR 48 r1), none] [] h Q := by
  unfold W_X8_term_5 at w
  refine jw_aload_n (pc' := 6) rfl rfl ?_
  refine jw_ldcwS (pc' := 9) rfl rfl rfl rfl ?_
  obtain ⟨g_1, w⟩ := w
  refine jw_cI (st := []) (sa := [vR 41 r0, vR 51 (jcs D 262)]) okX8_is rfl rfl rfl rfl rfl rfl (jstp_virtual (sa := [vR 51 (jcs D 262)]) (st := []) (k := 0) rfl rfl sX8_is okX8_is g_1 (one41.k g_1) rfl rfl) w (fun v_4 h_2 _ _ w => ?_)
  refine jw_if_ne (tgt := 35) (pc' := 15) rfl rfl (fun c_5 => ?_) (fun c_5 => ?_)
  · replace w := w.1 c_5
    exact w_X8_term_35 hK5 w
  · replace w := w.2 c_5
    refine jw_aload_n (pc' := 16) rfl rfl ?_
    refine jw_ldcwS (pc' := 19) rfl rfl rfl rfl ?_
    refine jw_cI (st := []) (sa := [vR 41 r0, vR 51 (jcs D 264)]) okX8_is rfl rfl rfl rfl rfl rfl (jstp_virtual (sa := [vR 51 (jcs D 264)]) (st := []) (k := 0) rfl rfl sX8_is okX8_is g_1 (one41.k g_1) rfl rfl) w (fun v_8 h_6 _ _ w => ?_)
    refine jw_if_ne (tgt := 35) (pc' := 25) rfl rfl (fun c_9 => ?_) (fun c_9 => ?_)
    · replace w := w.1 c_9
      exact w_X8_term_35 hK5 w
    · replace w := w.2 c_9
      refine jw_aload_n (pc' := 26) rfl rfl ?_
      refine jw_ldcwS (pc' := 29) rfl rfl rfl rfl ?_
      refine jw_cI (st := []) (sa := [vR 41 r0, vR 51 (jcs D 265)]) okX8_is rfl rfl rfl rfl rfl rfl (jstp_virtual (sa := [vR 51 (jcs D 265)]) (st := []) (k := 0) rfl rfl sX8_is okX8_is g_1 (one41.k g_1) rfl rfl) w (fun v_12 h_10 _ _ w => ?_)
      refine jw_if_eq (tgt := 88) (pc' := 35) rfl rfl (fun c_13 => ?_) (fun c_13 => ?_)
      · replace w := w.1 c_13
        refine jw_aload_n (pc' := 89) rfl rfl ?_
        exact jw_areturn rfl rfl rfl rfl rfl w
      · replace w := w.2 c_13
        exact w_X8_term_35 hK5 w
def L_X8_term_5 (D : JD) (d : Nat) (Q : JO → JH → Prop) : Nat → Nat → Nat → JH → Prop
  | 0 => fun _ _ _ => False
  | n + 1 => fun r0 r1 h => W_X8_term_5 D d Q (L_X8_term_5 D d Q n) r0 r1 h
theorem l_X8_term_5 {D : JD} {d : Nat} {Q : JO → JH → Prop} : ∀ (n : Nat) (r0 : Nat) (r1 : Nat) (h : JH), L_X8_term_5 D d Q n r0 r1 h → JW D (d + 1) mX8_term 5 [some (vR 41 r0), some (vR 48 r1), none] [] h Q := by
  intro n
  induction n with
  | zero => intro _ _ _ w; exact w.elim
  | succ n ih => intro _ _ h w; exact w_X8_term_5 ih w
def W_X8_term_0 (D : JD) (d : Nat) (Q : JO → JH → Prop) (r0 : Nat) (h : JH) : Prop :=
  r0 ≠ 0 ∧ (cX8_unary D d r0 h (pR D h 48 (fun v_4 h_2 => ∃ n, L_X8_term_5 D d Q n r0 v_4 h_2) (jth Q)))
theorem w_X8_term_0 {D : JD} {d : Nat} {Q : JO → JH → Prop} {r0 : Nat} {h : JH} (w : W_X8_term_0 D d Q r0 h) : JW D (d + 1) mX8_term 0 [some (vR 41 r0), none, none] [] h Q := by
  unfold W_X8_term_0 at w
  refine jw_aload_n (pc' := 1) rfl rfl ?_
  obtain ⟨g_1, w⟩ := w
  refine jw_cR (st := []) (sa := [vR 41 r0]) okX8_unary rfl rfl rfl rfl rfl rfl (jstp_virtual (sa := []) (st := []) (k := 0) rfl rfl sX8_unary okX8_unary g_1 (one41.k g_1) rfl rfl) w (fun v_4 h_2 _ _ _ w => ?_)
  refine jw_astore_n (pc' := 5) (ls' := [some (vR 41 r0), some (vR 48 v_4), none]) rfl (by decide) rfl ?_
  obtain ⟨n, w⟩ := w
  exact l_X8_term_5 n _ _ _ w
def T_X8_term (D : JD) (d : Nat) (Q : JO → JH → Prop) (r0 : Nat) (h : JH) : Prop := W_X8_term_0 D d Q r0 h
theorem t_X8_term {D : JD} {d : Nat} {Q : JO → JH → Prop} {r0 : Nat} {h : JH} (w : T_X8_term D d Q r0 h) : cX8_term D (d + 1) r0 h Q := by
  unfold T_X8_term at w
  unfold cX8_term
  exact w_X8_term_0 w
def W_X8_unary_0 (D : JD) (d : Nat) (Q : JO → JH → Prop) (r0 : Nat) (h : JH) : Prop :=
  r0 ≠ 0 ∧ (cX8_is D d r0 (jcs D 254) h (pI D h (fun v_4 h_2 => (¬ v_4 = 0 → cX8_deeper D d r0 h_2 (pV D h_2 (fun h_6 => cX8_next D d r0 h_6 (pV D h_6 (fun h_9 => cX8_node D d (13 : Int32) (0 : Int32) h_9 (pR D h_9 48 (fun v_14 h_12 => cX8_unary D d r0 h_12 (pR D h_12 48 (fun v_17 h_15 => v_14 ≠ 0 ∧ (cX46_add D d v_14 v_17 h_15 (pV D h_15 (fun h_19 => ∀ h_22 : JH, h_22 = wfi h_19 189 r0 ((jfi h_19 189 r0) - (1 : Int32)) → (Q (.inl (some (vR 48 v_14))) h_22)) (jth Q)))) (jth Q))) (jth Q))) (jth Q))) (jth Q))) ∧ (v_4 = 0 → cX8_primary D d r0 h_2 (pR D h_2 48 (fun v_26 h_24 => Q (.inl (some (vR 48 v_26))) h_24) (jth Q)))) (jth Q)))
theorem w_X8_unary_0 {D : JD} {d : Nat} {Q : JO → JH → Prop} {r0 : Nat} {h : JH} (w : W_X8_unary_0 D d Q r0 h) : JW D (d + 1) mX8_unary 0 [some (vR 41 r0), none] [] h Q := by
  unfold W_X8_unary_0 at w
  refine jw_aload_n (pc' := 1) rfl rfl ?_
  refine jw_ldcwS (pc' := 4) rfl rfl rfl rfl ?_
  obtain ⟨g_1, w⟩ := w
  refine jw_cI (st := []) (sa := [vR 41 r0, vR 51 (jcs D 254)]) okX8_is rfl rfl rfl rfl rfl rfl (jstp_virtual (sa := [vR 51 (jcs D 254)]) (st := []) (k := 0) rfl rfl sX8_is okX8_is g_1 (one41.k g_1) rfl rfl) w (fun v_4 h_2 _ _ w => ?_)
  refine jw_if_ne (tgt := 15) (pc' := 10) rfl rfl (fun c_5 => ?_) (fun c_5 => ?_)
  · replace w := w.1 c_5
    refine jw_aload_n (pc' := 16) rfl rfl ?_
    refine jw_cV (st := []) (sa := [vR 41 r0]) okX8_deeper rfl rfl rfl rfl rfl rfl (jstp_virtual (sa := []) (st := []) (k := 0) rfl rfl sX8_deeper okX8_deeper g_1 (one41.k g_1) rfl rfl) w (fun h_6 _ _ w => ?_)
    refine jw_aload_n (pc' := 20) rfl rfl ?_
    refine jw_cV (st := []) (sa := [vR 41 r0]) okX8_next rfl rfl rfl rfl rfl rfl (jstp_virtual (sa := []) (st := []) (k := 0) rfl rfl sX8_next okX8_next g_1 (one41.k g_1) rfl rfl) w (fun h_9 _ _ w => ?_)
    refine jw_bipush (pc' := 25) (x := (13 : Int32)) rfl rfl ?_
    refine jw_iconst (pc' := 26) (x := (0 : Int32)) rfl rfl ?_
    refine jw_cR (st := []) (sa := [vI (13 : Int32), vI (0 : Int32)]) okX8_node rfl rfl rfl rfl rfl rfl (jstp_static (sa := [vI (13 : Int32), vI (0 : Int32)]) (st := []) rfl rfl sX8_node okX8_node rfl rfl) w (fun v_14 h_12 _ _ _ w => ?_)
    refine jw_astore_n (pc' := 30) (ls' := [some (vR 41 r0), some (vR 48 v_14)]) rfl (by decide) rfl ?_
    refine jw_aload_n (pc' := 31) rfl rfl ?_
    refine jw_aload_n (pc' := 32) rfl rfl ?_
    refine jw_cR (st := [vR 48 v_14]) (sa := [vR 41 r0]) okX8_unary rfl rfl rfl rfl rfl rfl (jstp_virtual (sa := []) (st := [vR 48 v_14]) (k := 0) rfl rfl sX8_unary okX8_unary g_1 (one41.k g_1) rfl rfl) w (fun v_17 h_15 _ _ _ w => ?_)
    obtain ⟨g_18, w⟩ := w
    refine jw_cV (st := []) (sa := [vR 48 v_14, vR 48 v_17]) okX46_add rfl rfl rfl rfl rfl rfl (jstp_virtual (sa := [vR 48 v_17]) (st := []) (k := 0) rfl rfl sX46_add okX46_add g_18 (one48.k g_18) rfl rfl) w (fun h_19 _ _ w => ?_)
    refine jw_aload_n (pc' := 39) rfl rfl ?_
    refine jw_dup (pc' := 40) rfl rfl ?_
    refine jw_getI (pc' := 43) (F := 189) rfl rfl rfl rfl g_1 ?_
    refine jw_iconst (pc' := 44) (x := (1 : Int32)) rfl rfl ?_
    refine jw_isub (pc' := 45) rfl ?_
    refine jw_putI' (pc' := 48) (F := 189) rfl rfl rfl (Or.inr rfl) (Or.inl rfl) rfl (rfl) (rfl) rfl g_1 (fun h_22 e_23 => ?_)
    replace w := w h_22 e_23
    refine jw_aload_n (pc' := 49) rfl rfl ?_
    exact jw_areturn rfl rfl rfl rfl rfl w
  · replace w := w.2 c_5
    refine jw_aload_n (pc' := 11) rfl rfl ?_
    refine jw_cR (st := []) (sa := [vR 41 r0]) okX8_primary rfl rfl rfl rfl rfl rfl (jstp_virtual (sa := []) (st := []) (k := 0) rfl rfl sX8_primary okX8_primary g_1 (one41.k g_1) rfl rfl) w (fun v_26 h_24 _ _ _ w => ?_)
    exact jw_areturn rfl rfl rfl rfl rfl w
def T_X8_unary (D : JD) (d : Nat) (Q : JO → JH → Prop) (r0 : Nat) (h : JH) : Prop := W_X8_unary_0 D d Q r0 h
theorem t_X8_unary {D : JD} {d : Nat} {Q : JO → JH → Prop} {r0 : Nat} {h : JH} (w : T_X8_unary D d Q r0 h) : cX8_unary D (d + 1) r0 h Q := by
  unfold T_X8_unary at w
  unfold cX8_unary
  exact w_X8_unary_0 w
def W_X8_primary_139 (D : JD) (d : Nat) (Q : JO → JH → Prop) (r0 : Nat) (q0 : Nat) (s1 : Int32) (t2 : Int64) (h : JH) : Prop :=
  q0 ≠ 0 ∧ (cX8_literal D d q0 s1 t2 h (pR D h 48 (fun v_4 h_2 => r0 ≠ 0 ∧ (cX8_next D d r0 h_2 (pV D h_2 (fun h_6 => Q (.inl (some (vR 48 v_4))) h_6) (jth Q)))) (jth Q)))
theorem w_X8_primary_139 {D : JD} {d : Nat} {Q : JO → JH → Prop} {r0 : Nat} {q0 : Nat} {s1 : Int32} {t2 : Int64} {h : JH} (w : W_X8_primary_139 D d Q r0 q0 s1 t2 h) : JW D (d + 1) mX8_primary 139 [some (vR 41 r0), none, none] [vL t2, vI s1, vR 41 q0] h Q := by
  unfold W_X8_primary_139 at w
  obtain ⟨g_1, w⟩ := w
  refine jw_cR (st := []) (sa := [vR 41 q0, vI s1, vL t2]) okX8_literal rfl rfl rfl rfl rfl rfl (jstp_virtual (sa := [vI s1, vL t2]) (st := []) (k := 0) rfl rfl sX8_literal okX8_literal g_1 (one41.k g_1) rfl rfl) w (fun v_4 h_2 _ _ _ w => ?_)
  refine jw_astore_n (pc' := 143) (ls' := [some (vR 41 r0), some (vR 48 v_4), none]) rfl (by decide) rfl ?_
  refine jw_aload_n (pc' := 144) rfl rfl ?_
  obtain ⟨g_5, w⟩ := w
  refine jw_cV (st := []) (sa := [vR 41 r0]) okX8_next rfl rfl rfl rfl rfl rfl (jstp_virtual (sa := []) (st := []) (k := 0) rfl rfl sX8_next okX8_next g_5 (one41.k g_5) rfl rfl) w (fun h_6 _ _ w => ?_)
  refine jw_aload_n (pc' := 148) rfl rfl ?_
  exact jw_areturn rfl rfl rfl rfl rfl w
def W_X8_primary_121 (D : JD) (d : Nat) (Q : JO → JH → Prop) (r0 : Nat) (h : JH) : Prop :=
  r0 ≠ 0 ∧ (cX8_is D d r0 (jcs D 255) h (pI D h (fun v_4 h_2 => (v_4 = 0 → W_X8_primary_139 D d Q r0 r0 (16 : Int32) (0 : Int64) h_2) ∧ (¬ v_4 = 0 → W_X8_primary_139 D d Q r0 r0 (16 : Int32) (1 : Int64) h_2)) (jth Q)))
theorem w_X8_primary_121 {D : JD} {d : Nat} {Q : JO → JH → Prop} {r0 : Nat} {h : JH} (w : W_X8_primary_121 D d Q r0 h) : JW D (d + 1) mX8_primary 121 [some (vR 41 r0), none, none] [] h Q := by
  unfold W_X8_primary_121 at w
  refine jw_aload_n (pc' := 122) rfl rfl ?_
  refine jw_bipush (pc' := 124) (x := (16 : Int32)) rfl rfl ?_
  refine jw_aload_n (pc' := 125) rfl rfl ?_
  refine jw_ldcwS (pc' := 128) rfl rfl rfl rfl ?_
  obtain ⟨g_1, w⟩ := w
  refine jw_cI (st := [vI (16 : Int32), vR 41 r0]) (sa := [vR 41 r0, vR 51 (jcs D 255)]) okX8_is rfl rfl rfl rfl rfl rfl (jstp_virtual (sa := [vR 51 (jcs D 255)]) (st := [vI (16 : Int32), vR 41 r0]) (k := 0) rfl rfl sX8_is okX8_is g_1 (one41.k g_1) rfl rfl) w (fun v_4 h_2 _ _ w => ?_)
  refine jw_if_eq (tgt := 138) (pc' := 134) rfl rfl (fun c_5 => ?_) (fun c_5 => ?_)
  · replace w := w.1 c_5
    refine jw_lconst (pc' := 139) (x := (0 : Int64)) rfl rfl ?_
    exact w_X8_primary_139 w
  · replace w := w.2 c_5
    refine jw_lconst (pc' := 135) (x := (1 : Int64)) rfl rfl ?_
    refine jw_goto (pc' := 139) rfl rfl ?_
    exact w_X8_primary_139 w
def W_X8_primary_307 (D : JD) (d : Nat) (Q : JO → JH → Prop) (r2 : Nat) (h : JH) : Prop :=
  Q (.inl (some (vR 48 r2))) h
theorem w_X8_primary_307 {D : JD} {d : Nat} {Q : JO → JH → Prop} {r2 : Nat} {h : JH} (w : W_X8_primary_307 D d Q r2 h) : JW D (d + 1) mX8_primary 307 [none, none, some (vR 48 r2)] [] h Q := by
  unfold W_X8_primary_307 at w
  refine jw_aload_n (pc' := 308) rfl rfl ?_
  exact jw_areturn rfl rfl rfl rfl rfl w
def W_X8_primary_264 (D : JD) (d : Nat) (Q : JO → JH → Prop) (r0 : Nat) (r2 : Nat) (h : JH) : Prop :=
  r0 ≠ 0 ∧ (cX8_need D d r0 (jcs D 249) h (pV D h (fun h_2 => Q (.inl (some (vR 48 r2))) h_2) (jth Q)))
theorem w_X8_primary_264 {D : JD} {d : Nat} {Q : JO → JH → Prop} {r0 : Nat} {r2 : Nat} {h : JH} (w : W_X8_primary_264 D d Q r0 r2 h) : JW D (d + 1) mX8_primary 264 [some (vR 41 r0), none, some (vR 48 r2)] [] h Q := by
  unfold W_X8_primary_264 at w
  refine jw_aload_n (pc' := 265) rfl rfl ?_
  refine jw_ldcwS (pc' := 268) rfl rfl rfl rfl ?_
  obtain ⟨g_1, w⟩ := w
  refine jw_cV (st := []) (sa := [vR 41 r0, vR 51 (jcs D 249)]) okX8_need rfl rfl rfl rfl rfl rfl (jstp_virtual (sa := [vR 51 (jcs D 249)]) (st := []) (k := 0) rfl rfl sX8_need okX8_need g_1 (one41.k g_1) rfl rfl) w (fun h_2 _ _ w => ?_)
  refine jw_aload_n (pc' := 272) rfl rfl ?_
  exact jw_areturn rfl rfl rfl rfl rfl w
def W_X8_primary_95 (D : JD) (d : Nat) (Q : JO → JH → Prop) (r0 : Nat) (r1 : Nat) (h : JH) : Prop :=
  r0 ≠ 0 ∧ (cX8_next D d r0 h (pV D h (fun h_2 => Q (.inl (some (vR 48 r1))) h_2) (jth Q)))
theorem w_X8_primary_95 {D : JD} {d : Nat} {Q : JO → JH → Prop} {r0 : Nat} {r1 : Nat} {h : JH} (w : W_X8_primary_95 D d Q r0 r1 h) : JW D (d + 1) mX8_primary 95 [some (vR 41 r0), some (vR 48 r1), none] [] h Q := by
  unfold W_X8_primary_95 at w
  refine jw_aload_n (pc' := 96) rfl rfl ?_
  obtain ⟨g_1, w⟩ := w
  refine jw_cV (st := []) (sa := [vR 41 r0]) okX8_next rfl rfl rfl rfl rfl rfl (jstp_virtual (sa := []) (st := []) (k := 0) rfl rfl sX8_next okX8_next g_1 (one41.k g_1) rfl rfl) w (fun h_2 _ _ w => ?_)
  refine jw_aload_n (pc' := 100) rfl rfl ?_
  exact jw_areturn rfl rfl rfl rfl rfl w
def W_X8_primary_0 (D : JD) (d : Nat) (Q : JO → JH → Prop) (r0 : Nat) (h : JH) : Prop :=
  r0 ≠ 0 ∧ ((¬ (jfi h 183 r0) = (3 : Int32) → (¬ (jfi h 183 r0) = (4 : Int32) → (¬ (jfi h 183 r0) = (5 : Int32) → cX8_is D d r0 (jcs D 255) h (pI D h (fun v_7 h_5 => (¬ v_7 = 0 → W_X8_primary_121 D d Q r0 h_5) ∧ (v_7 = 0 → cX8_is D d r0 (jcs D 256) h_5 (pI D h_5 (fun v_11 h_9 => (v_11 = 0 → cX8_take D d r0 (jcs D 247) h_9 (pI D h_9 (fun v_15 h_13 => (v_15 = 0 → cX8_is D d r0 (jcs D 257) h_13 (pI D h_13 (fun v_19 h_17 => (v_19 = 0 → cX8_take D d r0 (jcs D 239) h_17 (pI D h_17 (fun v_23 h_21 => (v_23 = 0 → cX8_name D d r0 h_21 (pR D h_21 64 (fun v_27 h_25 => cX8_take D d r0 (jcs D 239) h_25 (pI D h_25 (fun v_30 h_28 => (v_30 = 0 → cX8_node D d (2 : Int32) (0 : Int32) h_28 (pR D h_28 48 (fun v_34 h_32 => v_34 ≠ 0 ∧ ∀ h_36 : JH, h_36 = wfr h_32 307 v_34 v_27 → (cX8_take D d r0 (jcs D 263) h_36 (pI D h_36 (fun v_40 h_38 => (v_40 = 0 → W_X8_primary_307 D d Q v_34 h_38) ∧ (¬ v_40 = 0 → ∀ h_42 : JH, h_42 = wfr h_38 308 v_34 v_27 → (cX8_name D d r0 h_42 (pR D h_42 64 (fun v_46 h_44 => ∀ h_47 : JH, h_47 = wfr h_44 307 v_34 v_46 → (W_X8_primary_307 D d Q v_34 h_47)) (jth Q))))) (jth Q)))) (jth Q))) ∧ (¬ v_30 = 0 → cX8_node D d (3 : Int32) (0 : Int32) h_28 (pR D h_28 48 (fun v_51 h_49 => v_51 ≠ 0 ∧ ∀ h_53 : JH, h_53 = wfr h_49 307 v_51 v_27 → (cX8_take D d r0 (jcs D 262) h_53 (pI D h_53 (fun v_57 h_55 => (v_57 = 0 → cX8_is D d r0 (jcs D 249) h_55 (pI D h_55 (fun v_61 h_59 => (¬ v_61 = 0 → W_X8_primary_264 D d Q r0 v_51 h_59) ∧ (v_61 = 0 → cX8_list D d r0 v_51 h_59 (pV D h_59 (fun h_63 => W_X8_primary_264 D d Q r0 v_51 h_63) (jth Q)))) (jth Q))) ∧ (¬ v_57 = 0 → ∀ h_66 : JH, h_66 = wfi h_55 306 v_51 (1 : Int32) → (W_X8_primary_264 D d Q r0 v_51 h_66))) (jth Q)))) (jth Q)))) (jth Q))) (jth Q))) ∧ (¬ v_23 = 0 → cX8_expression D d r0 h_21 (pR D h_21 48 (fun v_70 h_68 => cX8_need D d r0 (jcs D 249) h_68 (pV D h_68 (fun h_71 => Q (.inl (some (vR 48 v_70))) h_71) (jth Q))) (jth Q)))) (jth Q))) ∧ (¬ v_19 = 0 → cX8_cases D d r0 h_17 (pR D h_17 48 (fun v_76 h_74 => Q (.inl (some (vR 48 v_76))) h_74) (jth Q)))) (jth Q))) ∧ (¬ v_15 = 0 → cX8_literal D d r0 (0 : Int32) (0 : Int64) h_13 (pR D h_13 48 (fun v_79 h_77 => Q (.inl (some (vR 48 v_79))) h_77) (jth Q)))) (jth Q))) ∧ (¬ v_11 = 0 → W_X8_primary_121 D d Q r0 h_9)) (jth Q)))) (jth Q))) ∧ ((jfi h 183 r0) = (5 : Int32) → cX8_node D d (1 : Int32) ((Int64.toInt32 (jfl h 187 r0)) - (1 : Int32)) h (pR D h 48 (fun v_82 h_80 => (jfr h_80 191 r0) ≠ 0 ∧ (((lg_cmp (jfl h_80 187 r0) (Int32.toInt64 (jfi h_80 299 (jfr h_80 191 r0)))) ≤ 0 → W_X8_primary_95 D d Q r0 v_82 h_80) ∧ (¬ (lg_cmp (jfl h_80 187 r0) (Int32.toInt64 (jfi h_80 299 (jfr h_80 191 r0)))) ≤ 0 → ∀ h_85 : JH, h_85 = wfi h_80 299 (jfr h_80 191 r0) (Int64.toInt32 (jfl h_80 187 r0)) → (W_X8_primary_95 D d Q r0 v_82 h_85)))) (jth Q)))) ∧ ((jfi h 183 r0) = (4 : Int32) → cX8_node D d (0 : Int32) (0 : Int32) h (pR D h 48 (fun v_89 h_87 => v_89 ≠ 0 ∧ ∀ h_91 : JH, h_91 = wfr h_87 309 v_89 (jfr h_87 188 r0) → (cX8_next D d r0 h_91 (pV D h_91 (fun h_93 => Q (.inl (some (vR 48 v_89))) h_93) (jth Q)))) (jth Q)))) ∧ ((jfi h 183 r0) = (3 : Int32) → cX8_integer D d r0 h (pL D h (fun v_97 h_96 => cX8_literal D d r0 (20 : Int32) v_97 h_96 (pR D h_96 48 (fun v_100 h_98 => Q (.inl (some (vR 48 v_100))) h_98) (jth Q))) (jth Q))))
theorem w_X8_primary_0 {D : JD} {d : Nat} {Q : JO → JH → Prop} {r0 : Nat} {h : JH} (w : W_X8_primary_0 D d Q r0 h) : JW D (d + 1) mX8_primary 0 [some (vR 41 r0), none, none] [] h Q := by
  unfold W_X8_primary_0 at w
  refine jw_aload_n (pc' := 1) rfl rfl ?_
  obtain ⟨g_1, w⟩ := w
  refine jw_getI (pc' := 4) (F := 183) rfl rfl rfl rfl g_1 ?_
  refine jw_iconst (pc' := 5) (x := (3 : Int32)) rfl rfl ?_
  refine jw_icmp_ne (tgt := 19) (pc' := 8) rfl rfl (fun c_2 => ?_) (fun c_2 => ?_)
  · replace w := w.1 c_2
    refine jw_aload_n (pc' := 20) rfl rfl ?_
    refine jw_getI (pc' := 23) (F := 183) rfl rfl rfl rfl g_1 ?_
    refine jw_iconst (pc' := 24) (x := (4 : Int32)) rfl rfl ?_
    refine jw_icmp_ne (tgt := 47) (pc' := 27) rfl rfl (fun c_3 => ?_) (fun c_3 => ?_)
    · replace w := w.1 c_3
      refine jw_aload_n (pc' := 48) rfl rfl ?_
      refine jw_getI (pc' := 51) (F := 183) rfl rfl rfl rfl g_1 ?_
      refine jw_iconst (pc' := 52) (x := (5 : Int32)) rfl rfl ?_
      refine jw_icmp_ne (tgt := 101) (pc' := 55) rfl rfl (fun c_4 => ?_) (fun c_4 => ?_)
      · replace w := w.1 c_4
        refine jw_aload_n (pc' := 102) rfl rfl ?_
        refine jw_ldcwS (pc' := 105) rfl rfl rfl rfl ?_
        refine jw_cI (st := []) (sa := [vR 41 r0, vR 51 (jcs D 255)]) okX8_is rfl rfl rfl rfl rfl rfl (jstp_virtual (sa := [vR 51 (jcs D 255)]) (st := []) (k := 0) rfl rfl sX8_is okX8_is g_1 (one41.k g_1) rfl rfl) w (fun v_7 h_5 _ _ w => ?_)
        refine jw_if_ne (tgt := 121) (pc' := 111) rfl rfl (fun c_8 => ?_) (fun c_8 => ?_)
        · replace w := w.1 c_8
          exact w_X8_primary_121 w
        · replace w := w.2 c_8
          refine jw_aload_n (pc' := 112) rfl rfl ?_
          refine jw_ldcwS (pc' := 115) rfl rfl rfl rfl ?_
          refine jw_cI (st := []) (sa := [vR 41 r0, vR 51 (jcs D 256)]) okX8_is rfl rfl rfl rfl rfl rfl (jstp_virtual (sa := [vR 51 (jcs D 256)]) (st := []) (k := 0) rfl rfl sX8_is okX8_is g_1 (one41.k g_1) rfl rfl) w (fun v_11 h_9 _ _ w => ?_)
          refine jw_if_eq (tgt := 149) (pc' := 121) rfl rfl (fun c_12 => ?_) (fun c_12 => ?_)
          · replace w := w.1 c_12
            refine jw_aload_n (pc' := 150) rfl rfl ?_
            refine jw_ldcwS (pc' := 153) rfl rfl rfl rfl ?_
            refine jw_cI (st := []) (sa := [vR 41 r0, vR 51 (jcs D 247)]) okX8_take rfl rfl rfl rfl rfl rfl (jstp_virtual (sa := [vR 51 (jcs D 247)]) (st := []) (k := 0) rfl rfl sX8_take okX8_take g_1 (one41.k g_1) rfl rfl) w (fun v_15 h_13 _ _ w => ?_)
            refine jw_if_eq (tgt := 166) (pc' := 159) rfl rfl (fun c_16 => ?_) (fun c_16 => ?_)
            · replace w := w.1 c_16
              refine jw_aload_n (pc' := 167) rfl rfl ?_
              refine jw_ldcwS (pc' := 170) rfl rfl rfl rfl ?_
              refine jw_cI (st := []) (sa := [vR 41 r0, vR 51 (jcs D 257)]) okX8_is rfl rfl rfl rfl rfl rfl (jstp_virtual (sa := [vR 51 (jcs D 257)]) (st := []) (k := 0) rfl rfl sX8_is okX8_is g_1 (one41.k g_1) rfl rfl) w (fun v_19 h_17 _ _ w => ?_)
              refine jw_if_eq (tgt := 181) (pc' := 176) rfl rfl (fun c_20 => ?_) (fun c_20 => ?_)
              · replace w := w.1 c_20
                refine jw_aload_n (pc' := 182) rfl rfl ?_
                refine jw_ldcwS (pc' := 185) rfl rfl rfl rfl ?_
                refine jw_cI (st := []) (sa := [vR 41 r0, vR 51 (jcs D 239)]) okX8_take rfl rfl rfl rfl rfl rfl (jstp_virtual (sa := [vR 51 (jcs D 239)]) (st := []) (k := 0) rfl rfl sX8_take okX8_take g_1 (one41.k g_1) rfl rfl) w (fun v_23 h_21 _ _ w => ?_)
                refine jw_if_eq (tgt := 205) (pc' := 191) rfl rfl (fun c_24 => ?_) (fun c_24 => ?_)
                · replace w := w.1 c_24
                  refine jw_aload_n (pc' := 206) rfl rfl ?_
                  refine jw_cR (st := []) (sa := [vR 41 r0]) okX8_name rfl rfl rfl rfl rfl rfl (jstp_virtual (sa := []) (st := []) (k := 0) rfl rfl sX8_name okX8_name g_1 (one41.k g_1) rfl rfl) w (fun v_27 h_25 _ _ _ w => ?_)
                  refine jw_astore_n (pc' := 210) (ls' := [some (vR 41 r0), some (vR 64 v_27), none]) rfl (by decide) rfl ?_
                  refine jw_aload_n (pc' := 211) rfl rfl ?_
                  refine jw_ldcwS (pc' := 214) rfl rfl rfl rfl ?_
                  refine jw_cI (st := []) (sa := [vR 41 r0, vR 51 (jcs D 239)]) okX8_take rfl rfl rfl rfl rfl rfl (jstp_virtual (sa := [vR 51 (jcs D 239)]) (st := []) (k := 0) rfl rfl sX8_take okX8_take g_1 (one41.k g_1) rfl rfl) w (fun v_30 h_28 _ _ w => ?_)
                  refine jw_if_eq (tgt := 273) (pc' := 220) rfl rfl (fun c_31 => ?_) (fun c_31 => ?_)
                  · replace w := w.1 c_31
                    refine jw_iconst (pc' := 274) (x := (2 : Int32)) rfl rfl ?_
                    refine jw_iconst (pc' := 275) (x := (0 : Int32)) rfl rfl ?_
                    refine jw_cR (st := []) (sa := [vI (2 : Int32), vI (0 : Int32)]) okX8_node rfl rfl rfl rfl rfl rfl (jstp_static (sa := [vI (2 : Int32), vI (0 : Int32)]) (st := []) rfl rfl sX8_node okX8_node rfl rfl) w (fun v_34 h_32 _ _ _ w => ?_)
                    refine jw_astore_n (pc' := 279) (ls' := [some (vR 41 r0), some (vR 64 v_27), some (vR 48 v_34)]) rfl (by decide) rfl ?_
                    refine jw_aload_n (pc' := 280) rfl rfl ?_
                    refine jw_aload_n (pc' := 281) rfl rfl ?_
                    obtain ⟨g_35, w⟩ := w
                    refine jw_putR' (pc' := 284) (F := 307) rfl rfl rfl (Or.inr rfl) (Or.inl rfl) rfl rfl rfl g_35 (fun h_36 e_37 => ?_)
                    replace w := w h_36 e_37
                    refine jw_aload_n (pc' := 285) rfl rfl ?_
                    refine jw_ldcwS (pc' := 288) rfl rfl rfl rfl ?_
                    refine jw_cI (st := []) (sa := [vR 41 r0, vR 51 (jcs D 263)]) okX8_take rfl rfl rfl rfl rfl rfl (jstp_virtual (sa := [vR 51 (jcs D 263)]) (st := []) (k := 0) rfl rfl sX8_take okX8_take g_1 (one41.k g_1) rfl rfl) w (fun v_40 h_38 _ _ w => ?_)
                    refine jw_if_eq (tgt := 307) (pc' := 294) rfl rfl (fun c_41 => ?_) (fun c_41 => ?_)
                    · replace w := w.1 c_41
                      refine jw_gen (ls' := [none, none, some (vR 48 v_34)]) (st' := []) (And.intro (Or.inl rfl) (trivial)) (trivial) ?_
                      exact w_X8_primary_307 w
                    · replace w := w.2 c_41
                      refine jw_aload_n (pc' := 295) rfl rfl ?_
                      refine jw_aload_n (pc' := 296) rfl rfl ?_
                      refine jw_putR' (pc' := 299) (F := 308) rfl rfl rfl (Or.inr rfl) (Or.inl rfl) rfl rfl rfl g_35 (fun h_42 e_43 => ?_)
                      replace w := w h_42 e_43
                      refine jw_aload_n (pc' := 300) rfl rfl ?_
                      refine jw_aload_n (pc' := 301) rfl rfl ?_
                      refine jw_cR (st := [vR 48 v_34]) (sa := [vR 41 r0]) okX8_name rfl rfl rfl rfl rfl rfl (jstp_virtual (sa := []) (st := [vR 48 v_34]) (k := 0) rfl rfl sX8_name okX8_name g_1 (one41.k g_1) rfl rfl) w (fun v_46 h_44 _ _ _ w => ?_)
                      refine jw_putR' (pc' := 307) (F := 307) rfl rfl rfl (Or.inr rfl) (Or.inl rfl) rfl rfl rfl g_35 (fun h_47 e_48 => ?_)
                      replace w := w h_47 e_48
                      refine jw_gen (ls' := [none, none, some (vR 48 v_34)]) (st' := []) (And.intro (Or.inl rfl) (trivial)) (trivial) ?_
                      exact w_X8_primary_307 w
                  · replace w := w.2 c_31
                    refine jw_iconst (pc' := 221) (x := (3 : Int32)) rfl rfl ?_
                    refine jw_iconst (pc' := 222) (x := (0 : Int32)) rfl rfl ?_
                    refine jw_cR (st := []) (sa := [vI (3 : Int32), vI (0 : Int32)]) okX8_node rfl rfl rfl rfl rfl rfl (jstp_static (sa := [vI (3 : Int32), vI (0 : Int32)]) (st := []) rfl rfl sX8_node okX8_node rfl rfl) w (fun v_51 h_49 _ _ _ w => ?_)
                    refine jw_astore_n (pc' := 226) (ls' := [some (vR 41 r0), some (vR 64 v_27), some (vR 48 v_51)]) rfl (by decide) rfl ?_
                    refine jw_aload_n (pc' := 227) rfl rfl ?_
                    refine jw_aload_n (pc' := 228) rfl rfl ?_
                    obtain ⟨g_52, w⟩ := w
                    refine jw_putR' (pc' := 231) (F := 307) rfl rfl rfl (Or.inr rfl) (Or.inl rfl) rfl rfl rfl g_52 (fun h_53 e_54 => ?_)
                    replace w := w h_53 e_54
                    refine jw_aload_n (pc' := 232) rfl rfl ?_
                    refine jw_ldcwS (pc' := 235) rfl rfl rfl rfl ?_
                    refine jw_cI (st := []) (sa := [vR 41 r0, vR 51 (jcs D 262)]) okX8_take rfl rfl rfl rfl rfl rfl (jstp_virtual (sa := [vR 51 (jcs D 262)]) (st := []) (k := 0) rfl rfl sX8_take okX8_take g_1 (one41.k g_1) rfl rfl) w (fun v_57 h_55 _ _ w => ?_)
                    refine jw_if_eq (tgt := 249) (pc' := 241) rfl rfl (fun c_58 => ?_) (fun c_58 => ?_)
                    · replace w := w.1 c_58
                      refine jw_aload_n (pc' := 250) rfl rfl ?_
                      refine jw_ldcwS (pc' := 253) rfl rfl rfl rfl ?_
                      refine jw_cI (st := []) (sa := [vR 41 r0, vR 51 (jcs D 249)]) okX8_is rfl rfl rfl rfl rfl rfl (jstp_virtual (sa := [vR 51 (jcs D 249)]) (st := []) (k := 0) rfl rfl sX8_is okX8_is g_1 (one41.k g_1) rfl rfl) w (fun v_61 h_59 _ _ w => ?_)
                      refine jw_if_ne (tgt := 264) (pc' := 259) rfl rfl (fun c_62 => ?_) (fun c_62 => ?_)
                      · replace w := w.1 c_62
                        refine jw_gen (ls' := [some (vR 41 r0), none, some (vR 48 v_51)]) (st' := []) (And.intro (Or.inl rfl) (And.intro (Or.inl rfl) (trivial))) (trivial) ?_
                        exact w_X8_primary_264 w
                      · replace w := w.2 c_62
                        refine jw_aload_n (pc' := 260) rfl rfl ?_
                        refine jw_aload_n (pc' := 261) rfl rfl ?_
                        refine jw_cV (st := []) (sa := [vR 41 r0, vR 48 v_51]) okX8_list rfl rfl rfl rfl rfl rfl (jstp_virtual (sa := [vR 48 v_51]) (st := []) (k := 0) rfl rfl sX8_list okX8_list g_1 (one41.k g_1) rfl rfl) w (fun h_63 _ _ w => ?_)
                        refine jw_gen (ls' := [some (vR 41 r0), none, some (vR 48 v_51)]) (st' := []) (And.intro (Or.inl rfl) (And.intro (Or.inl rfl) (trivial))) (trivial) ?_
                        exact w_X8_primary_264 w
                    · replace w := w.2 c_58
                      refine jw_aload_n (pc' := 242) rfl rfl ?_
                      refine jw_iconst (pc' := 243) (x := (1 : Int32)) rfl rfl ?_
                      refine jw_putI' (pc' := 246) (F := 306) rfl rfl rfl (Or.inr rfl) (Or.inl rfl) rfl (rfl) (rfl) rfl g_52 (fun h_66 e_67 => ?_)
                      replace w := w h_66 e_67
                      refine jw_goto (pc' := 264) rfl rfl ?_
                      refine jw_gen (ls' := [some (vR 41 r0), none, some (vR 48 v_51)]) (st' := []) (And.intro (Or.inl rfl) (And.intro (Or.inl rfl) (trivial))) (trivial) ?_
                      exact w_X8_primary_264 w
                · replace w := w.2 c_24
                  refine jw_aload_n (pc' := 192) rfl rfl ?_
                  refine jw_cR (st := []) (sa := [vR 41 r0]) okX8_expression rfl rfl rfl rfl rfl rfl (jstp_virtual (sa := []) (st := []) (k := 0) rfl rfl sX8_expression okX8_expression g_1 (one41.k g_1) rfl rfl) w (fun v_70 h_68 _ _ _ w => ?_)
                  refine jw_astore_n (pc' := 196) (ls' := [some (vR 41 r0), some (vR 48 v_70), none]) rfl (by decide) rfl ?_
                  refine jw_aload_n (pc' := 197) rfl rfl ?_
                  refine jw_ldcwS (pc' := 200) rfl rfl rfl rfl ?_
                  refine jw_cV (st := []) (sa := [vR 41 r0, vR 51 (jcs D 249)]) okX8_need rfl rfl rfl rfl rfl rfl (jstp_virtual (sa := [vR 51 (jcs D 249)]) (st := []) (k := 0) rfl rfl sX8_need okX8_need g_1 (one41.k g_1) rfl rfl) w (fun h_71 _ _ w => ?_)
                  refine jw_aload_n (pc' := 204) rfl rfl ?_
                  exact jw_areturn rfl rfl rfl rfl rfl w
              · replace w := w.2 c_20
                refine jw_aload_n (pc' := 177) rfl rfl ?_
                refine jw_cR (st := []) (sa := [vR 41 r0]) okX8_cases rfl rfl rfl rfl rfl rfl (jstp_virtual (sa := []) (st := []) (k := 0) rfl rfl sX8_cases okX8_cases g_1 (one41.k g_1) rfl rfl) w (fun v_76 h_74 _ _ _ w => ?_)
                exact jw_areturn rfl rfl rfl rfl rfl w
            · replace w := w.2 c_16
              refine jw_aload_n (pc' := 160) rfl rfl ?_
              refine jw_iconst (pc' := 161) (x := (0 : Int32)) rfl rfl ?_
              refine jw_lconst (pc' := 162) (x := (0 : Int64)) rfl rfl ?_
              refine jw_cR (st := []) (sa := [vR 41 r0, vI (0 : Int32), vL (0 : Int64)]) okX8_literal rfl rfl rfl rfl rfl rfl (jstp_virtual (sa := [vI (0 : Int32), vL (0 : Int64)]) (st := []) (k := 0) rfl rfl sX8_literal okX8_literal g_1 (one41.k g_1) rfl rfl) w (fun v_79 h_77 _ _ _ w => ?_)
              exact jw_areturn rfl rfl rfl rfl rfl w
          · replace w := w.2 c_12
            exact w_X8_primary_121 w
      · replace w := w.2 c_4
        refine jw_iconst (pc' := 56) (x := (1 : Int32)) rfl rfl ?_
        refine jw_aload_n (pc' := 57) rfl rfl ?_
        refine jw_getL (pc' := 60) (F := 187) rfl rfl rfl rfl g_1 ?_
        refine jw_l2i (pc' := 61) rfl ?_
        refine jw_iconst (pc' := 62) (x := (1 : Int32)) rfl rfl ?_
        refine jw_isub (pc' := 63) rfl ?_
        refine jw_cR (st := []) (sa := [vI (1 : Int32), vI ((Int64.toInt32 (jfl h 187 r0)) - (1 : Int32))]) okX8_node rfl rfl rfl rfl rfl rfl (jstp_static (sa := [vI (1 : Int32), vI ((Int64.toInt32 (jfl h 187 r0)) - (1 : Int32))]) (st := []) rfl rfl sX8_node okX8_node rfl rfl) w (fun v_82 h_80 _ _ _ w => ?_)
        refine jw_astore_n (pc' := 67) (ls' := [some (vR 41 r0), some (vR 48 v_82), none]) rfl (by decide) rfl ?_
        refine jw_aload_n (pc' := 68) rfl rfl ?_
        refine jw_getL (pc' := 71) (F := 187) rfl rfl rfl rfl g_1 ?_
        refine jw_aload_n (pc' := 72) rfl rfl ?_
        refine jw_getR (pc' := 75) (F := 191) (t' := 47) rfl rfl rfl rfl rfl g_1 ?_
        obtain ⟨g_83, w⟩ := w
        refine jw_getI (pc' := 78) (F := 299) rfl rfl rfl rfl g_83 ?_
        refine jw_i2l (pc' := 79) rfl ?_
        refine jw_lcmp (pc' := 80) rfl ?_
        refine jw_if_le (tgt := 95) (pc' := 83) rfl rfl (fun c_84 => ?_) (fun c_84 => ?_)
        · replace w := w.1 c_84
          exact w_X8_primary_95 w
        · replace w := w.2 c_84
          refine jw_aload_n (pc' := 84) rfl rfl ?_
          refine jw_getR (pc' := 87) (F := 191) (t' := 47) rfl rfl rfl rfl rfl g_1 ?_
          refine jw_aload_n (pc' := 88) rfl rfl ?_
          refine jw_getL (pc' := 91) (F := 187) rfl rfl rfl rfl g_1 ?_
          refine jw_l2i (pc' := 92) rfl ?_
          refine jw_putI' (pc' := 95) (F := 299) rfl rfl rfl (Or.inr rfl) (Or.inl rfl) rfl (rfl) (rfl) rfl g_83 (fun h_85 e_86 => ?_)
          replace w := w h_85 e_86
          exact w_X8_primary_95 w
    · replace w := w.2 c_3
      refine jw_iconst (pc' := 28) (x := (0 : Int32)) rfl rfl ?_
      refine jw_iconst (pc' := 29) (x := (0 : Int32)) rfl rfl ?_
      refine jw_cR (st := []) (sa := [vI (0 : Int32), vI (0 : Int32)]) okX8_node rfl rfl rfl rfl rfl rfl (jstp_static (sa := [vI (0 : Int32), vI (0 : Int32)]) (st := []) rfl rfl sX8_node okX8_node rfl rfl) w (fun v_89 h_87 _ _ _ w => ?_)
      refine jw_astore_n (pc' := 33) (ls' := [some (vR 41 r0), some (vR 48 v_89), none]) rfl (by decide) rfl ?_
      refine jw_aload_n (pc' := 34) rfl rfl ?_
      refine jw_aload_n (pc' := 35) rfl rfl ?_
      refine jw_getR (pc' := 38) (F := 188) (t' := 105) rfl rfl rfl rfl rfl g_1 ?_
      obtain ⟨g_90, w⟩ := w
      refine jw_putR' (pc' := 41) (F := 309) rfl rfl rfl (Or.inr rfl) (Or.inl rfl) rfl rfl rfl g_90 (fun h_91 e_92 => ?_)
      replace w := w h_91 e_92
      refine jw_aload_n (pc' := 42) rfl rfl ?_
      refine jw_cV (st := []) (sa := [vR 41 r0]) okX8_next rfl rfl rfl rfl rfl rfl (jstp_virtual (sa := []) (st := []) (k := 0) rfl rfl sX8_next okX8_next g_1 (one41.k g_1) rfl rfl) w (fun h_93 _ _ w => ?_)
      refine jw_aload_n (pc' := 46) rfl rfl ?_
      exact jw_areturn rfl rfl rfl rfl rfl w
  · replace w := w.2 c_2
    refine jw_aload_n (pc' := 9) rfl rfl ?_
    refine jw_bipush (pc' := 11) (x := (20 : Int32)) rfl rfl ?_
    refine jw_aload_n (pc' := 12) rfl rfl ?_
    refine jw_cL (st := [vI (20 : Int32), vR 41 r0]) (sa := [vR 41 r0]) okX8_integer rfl rfl rfl rfl rfl rfl (jstp_virtual (sa := []) (st := [vI (20 : Int32), vR 41 r0]) (k := 0) rfl rfl sX8_integer okX8_integer g_1 (one41.k g_1) rfl rfl) w (fun v_97 h_96 _ _ w => ?_)
    refine jw_cR (st := []) (sa := [vR 41 r0, vI (20 : Int32), vL v_97]) okX8_literal rfl rfl rfl rfl rfl rfl (jstp_virtual (sa := [vI (20 : Int32), vL v_97]) (st := []) (k := 0) rfl rfl sX8_literal okX8_literal g_1 (one41.k g_1) rfl rfl) w (fun v_100 h_98 _ _ _ w => ?_)
    exact jw_areturn rfl rfl rfl rfl rfl w
def T_X8_primary (D : JD) (d : Nat) (Q : JO → JH → Prop) (r0 : Nat) (h : JH) : Prop := W_X8_primary_0 D d Q r0 h
theorem t_X8_primary {D : JD} {d : Nat} {Q : JO → JH → Prop} {r0 : Nat} {h : JH} (w : T_X8_primary D d Q r0 h) : cX8_primary D (d + 1) r0 h Q := by
  unfold T_X8_primary at w
  unfold cX8_primary
  exact w_X8_primary_0 w
def W_X8_integer_14 (D : JD) (d : Nat) (Q : JO → JH → Prop) (r0 : Nat) (q0 : Nat) (s1 : Int32) (h : JH) : Prop :=
  q0 ≠ 0 ∧ (cX8_can D d q0 s1 h (pV D h (fun h_2 => r0 ≠ 0 ∧ (cX8_next D d r0 h_2 (pV D h_2 (fun h_6 => Q (.inl (some (vL (jfl h_2 187 r0)))) h_6) (jth Q)))) (jth Q)))
theorem w_X8_integer_14 {D : JD} {d : Nat} {Q : JO → JH → Prop} {r0 : Nat} {q0 : Nat} {s1 : Int32} {h : JH} (w : W_X8_integer_14 D d Q r0 q0 s1 h) : JW D (d + 1) mX8_integer 14 [some (vR 41 r0), none, none] [vI s1, vR 41 q0] h Q := by
  unfold W_X8_integer_14 at w
  obtain ⟨g_1, w⟩ := w
  refine jw_cV (st := []) (sa := [vR 41 q0, vI s1]) okX8_can rfl rfl rfl rfl rfl rfl (jstp_virtual (sa := [vI s1]) (st := []) (k := 0) rfl rfl sX8_can okX8_can g_1 (one41.k g_1) rfl rfl) w (fun h_2 _ _ w => ?_)
  refine jw_aload_n (pc' := 18) rfl rfl ?_
  obtain ⟨g_5, w⟩ := w
  refine jw_getL (pc' := 21) (F := 187) rfl rfl rfl rfl g_5 ?_
  refine jw_lstore_n (pc' := 22) (ls' := [some (vR 41 r0), some (vL (jfl h_2 187 r0)), none]) rfl (by decide) rfl ?_
  refine jw_aload_n (pc' := 23) rfl rfl ?_
  refine jw_cV (st := []) (sa := [vR 41 r0]) okX8_next rfl rfl rfl rfl rfl rfl (jstp_virtual (sa := []) (st := []) (k := 0) rfl rfl sX8_next okX8_next g_5 (one41.k g_5) rfl rfl) w (fun h_6 _ _ w => ?_)
  refine jw_lload_n (pc' := 27) rfl rfl ?_
  exact jw_lreturn rfl rfl w
def W_X8_integer_0 (D : JD) (d : Nat) (Q : JO → JH → Prop) (r0 : Nat) (h : JH) : Prop :=
  r0 ≠ 0 ∧ ((¬ (jfi h 183 r0) = (3 : Int32) → W_X8_integer_14 D d Q r0 r0 (0 : Int32) h) ∧ ((jfi h 183 r0) = (3 : Int32) → W_X8_integer_14 D d Q r0 r0 (1 : Int32) h))
theorem w_X8_integer_0 {D : JD} {d : Nat} {Q : JO → JH → Prop} {r0 : Nat} {h : JH} (w : W_X8_integer_0 D d Q r0 h) : JW D (d + 1) mX8_integer 0 [some (vR 41 r0), none, none] [] h Q := by
  unfold W_X8_integer_0 at w
  refine jw_aload_n (pc' := 1) rfl rfl ?_
  refine jw_aload_n (pc' := 2) rfl rfl ?_
  obtain ⟨g_1, w⟩ := w
  refine jw_getI (pc' := 5) (F := 183) rfl rfl rfl rfl g_1 ?_
  refine jw_iconst (pc' := 6) (x := (3 : Int32)) rfl rfl ?_
  refine jw_icmp_ne (tgt := 13) (pc' := 9) rfl rfl (fun c_2 => ?_) (fun c_2 => ?_)
  · replace w := w.1 c_2
    refine jw_iconst (pc' := 14) (x := (0 : Int32)) rfl rfl ?_
    exact w_X8_integer_14 w
  · replace w := w.2 c_2
    refine jw_iconst (pc' := 10) (x := (1 : Int32)) rfl rfl ?_
    refine jw_goto (pc' := 14) rfl rfl ?_
    exact w_X8_integer_14 w
def T_X8_integer (D : JD) (d : Nat) (Q : JO → JH → Prop) (r0 : Nat) (h : JH) : Prop := W_X8_integer_0 D d Q r0 h
theorem t_X8_integer {D : JD} {d : Nat} {Q : JO → JH → Prop} {r0 : Nat} {h : JH} (w : T_X8_integer D d Q r0 h) : cX8_integer D (d + 1) r0 h Q := by
  unfold T_X8_integer at w
  unfold cX8_integer
  exact w_X8_integer_0 w
def W_X8_literal_0 (D : JD) (d : Nat) (Q : JO → JH → Prop) (x1 : Int32) (y2 : Int64) (h : JH) : Prop :=
  cX8_node D d (0 : Int32) (0 : Int32) h (pR D h 48 (fun v_3 h_1 => ∀ (r_4 : Nat) (h_5 : JH), r_4 = jsz h_1 + 1 → h_5 = nwo h_1 105 4 → (cX13_init D d r_4 h_5 (pV D h_5 (fun h_8 => v_3 ≠ 0 ∧ ∀ h_12 : JH, h_12 = wfr h_8 309 v_3 r_4 → ((jfr h_12 309 v_3) ≠ 0 ∧ ∀ h_15 : JH, h_15 = wfi h_12 266 (jfr h_12 309 v_3) x1 → ((jfr h_15 309 v_3) ≠ 0 ∧ ∀ h_18 : JH, h_18 = wfl h_15 267 (jfr h_15 309 v_3) y2 → (Q (.inl (some (vR 48 v_3))) h_18)))) (jth Q)))) (jth Q))
theorem w_X8_literal_0 {D : JD} {d : Nat} {Q : JO → JH → Prop} {x1 : Int32} {y2 : Int64} {h : JH} (w : W_X8_literal_0 D d Q x1 y2 h) : JW D (d + 1) mX8_literal 0 [none, some (vI x1), some (vL y2), none, none] [] h Q := by
  unfold W_X8_literal_0 at w
  refine jw_iconst (pc' := 1) (x := (0 : Int32)) rfl rfl ?_
  refine jw_iconst (pc' := 2) (x := (0 : Int32)) rfl rfl ?_
  refine jw_cR (st := []) (sa := [vI (0 : Int32), vI (0 : Int32)]) okX8_node rfl rfl rfl rfl rfl rfl (jstp_static (sa := [vI (0 : Int32), vI (0 : Int32)]) (st := []) rfl rfl sX8_node okX8_node rfl rfl) w (fun v_3 h_1 _ _ _ w => ?_)
  refine jw_astore (pc' := 7) (ls' := [none, some (vI x1), some (vL y2), none, some (vR 48 v_3)]) rfl (by decide) rfl ?_
  refine jw_aload (pc' := 9) rfl rfl ?_
  refine jw_new' (pc' := 12) (k := 105) (n := 4) rfl rfl rfl rfl rfl rfl rfl (fun r_4 h_5 e_6 e_7 => ?_)
  replace w := w r_4 h_5 e_6 e_7
  refine jw_dup (pc' := 13) rfl rfl ?_
  refine jw_cV (st := [vR 105 r_4, vR 48 v_3]) (sa := [vR 105 r_4]) okX13_init rfl rfl rfl rfl rfl rfl (jstp_init (sa := []) (st := [vR 105 r_4, vR 48 v_3]) rfl rfl sX13_init okX13_init (lw_g (jtb_mem (c := 15) (i := 221) rfl) rfl) (jnz e_6) rfl rfl) w (fun h_8 _ _ w => ?_)
  obtain ⟨g_11, w⟩ := w
  refine jw_putR' (pc' := 19) (F := 309) rfl rfl rfl (Or.inr rfl) (Or.inl rfl) rfl rfl rfl g_11 (fun h_12 e_13 => ?_)
  replace w := w h_12 e_13
  refine jw_aload (pc' := 21) rfl rfl ?_
  refine jw_getR (pc' := 24) (F := 309) (t' := 105) rfl rfl rfl rfl rfl g_11 ?_
  refine jw_iload_n (pc' := 25) rfl rfl ?_
  obtain ⟨g_14, w⟩ := w
  refine jw_putI' (pc' := 28) (F := 266) rfl rfl rfl (Or.inr rfl) (Or.inl rfl) rfl (rfl) (rfl) rfl g_14 (fun h_15 e_16 => ?_)
  replace w := w h_15 e_16
  refine jw_aload (pc' := 30) rfl rfl ?_
  refine jw_getR (pc' := 33) (F := 309) (t' := 105) rfl rfl rfl rfl rfl g_11 ?_
  refine jw_lload_n (pc' := 34) rfl rfl ?_
  obtain ⟨g_17, w⟩ := w
  refine jw_putL' (pc' := 37) (F := 267) rfl rfl rfl (Or.inr rfl) (Or.inl rfl) rfl rfl rfl g_17 (fun h_18 e_19 => ?_)
  replace w := w h_18 e_19
  refine jw_aload (pc' := 39) rfl rfl ?_
  exact jw_areturn rfl rfl rfl rfl rfl w
def T_X8_literal (D : JD) (d : Nat) (Q : JO → JH → Prop) (r0 : Nat) (x1 : Int32) (y2 : Int64) (h : JH) : Prop := W_X8_literal_0 D d Q x1 y2 h
theorem t_X8_literal {D : JD} {d : Nat} {Q : JO → JH → Prop} {r0 : Nat} {x1 : Int32} {y2 : Int64} {h : JH} (w : T_X8_literal D d Q r0 x1 y2 h) : cX8_literal D (d + 1) r0 x1 y2 h Q := by
  unfold T_X8_literal at w
  unfold cX8_literal
  refine jw_gen (ls' := [none, some (vI x1), some (vL y2), none, none]) (st' := []) (And.intro (Or.inl rfl) (And.intro (Or.inl rfl) (trivial))) (trivial) ?_
  exact w_X8_literal_0 w
def W_X8_node_0 (D : JD) (d : Nat) (Q : JO → JH → Prop) (x0 : Int32) (x1 : Int32) (h : JH) : Prop :=
  ∀ (r_1 : Nat) (h_2 : JH), r_1 = jsz h + 1 → h_2 = nwo h 48 10 → (cX46_init D d r_1 h_2 (pV D h_2 (fun h_5 => ∀ h_8 : JH, h_8 = wfi h_5 305 r_1 x0 → (∀ h_10 : JH, h_10 = wfi h_8 306 r_1 x1 → (Q (.inl (some (vR 48 r_1))) h_10))) (jth Q)))
theorem w_X8_node_0 {D : JD} {d : Nat} {Q : JO → JH → Prop} {x0 : Int32} {x1 : Int32} {h : JH} (w : W_X8_node_0 D d Q x0 x1 h) : JW D (d + 1) mX8_node 0 [some (vI x0), some (vI x1), none] [] h Q := by
  unfold W_X8_node_0 at w
  refine jw_new' (pc' := 3) (k := 48) (n := 10) rfl rfl rfl rfl rfl rfl rfl (fun r_1 h_2 e_3 e_4 => ?_)
  replace w := w r_1 h_2 e_3 e_4
  refine jw_dup (pc' := 4) rfl rfl ?_
  refine jw_cV (st := [vR 48 r_1]) (sa := [vR 48 r_1]) okX46_init rfl rfl rfl rfl rfl rfl (jstp_init (sa := []) (st := [vR 48 r_1]) rfl rfl sX46_init okX46_init (lw_g (jtb_mem (c := 19) (i := 45) rfl) rfl) (jnz e_3) rfl rfl) w (fun h_5 _ _ w => ?_)
  refine jw_astore_n (pc' := 8) (ls' := [some (vI x0), some (vI x1), some (vR 48 r_1)]) rfl (by decide) rfl ?_
  refine jw_aload_n (pc' := 9) rfl rfl ?_
  refine jw_iload_n (pc' := 10) rfl rfl ?_
  refine jw_putI' (pc' := 13) (F := 305) rfl rfl rfl (Or.inr rfl) (Or.inl rfl) rfl (rfl) (rfl) rfl (jnz e_3) (fun h_8 e_9 => ?_)
  replace w := w h_8 e_9
  refine jw_aload_n (pc' := 14) rfl rfl ?_
  refine jw_iload_n (pc' := 15) rfl rfl ?_
  refine jw_putI' (pc' := 18) (F := 306) rfl rfl rfl (Or.inr rfl) (Or.inl rfl) rfl (rfl) (rfl) rfl (jnz e_3) (fun h_10 e_11 => ?_)
  replace w := w h_10 e_11
  refine jw_aload_n (pc' := 19) rfl rfl ?_
  exact jw_areturn rfl rfl rfl rfl rfl w
def T_X8_node (D : JD) (d : Nat) (Q : JO → JH → Prop) (x0 : Int32) (x1 : Int32) (h : JH) : Prop := W_X8_node_0 D d Q x0 x1 h
theorem t_X8_node {D : JD} {d : Nat} {Q : JO → JH → Prop} {x0 : Int32} {x1 : Int32} {h : JH} (w : T_X8_node D d Q x0 x1 h) : cX8_node D (d + 1) x0 x1 h Q := by
  unfold T_X8_node at w
  unfold cX8_node
  exact w_X8_node_0 w
def W_X8_cases_104 (D : JD) (d : Nat) (Q : JO → JH → Prop) (r0 : Nat) (r1 : Nat) (h : JH) : Prop :=
  r0 ≠ 0 ∧ (cX8_need D d r0 (jcs D 261) h (pV D h (fun h_2 => Q (.inl (some (vR 48 r1))) h_2) (jth Q)))
theorem w_X8_cases_104 {D : JD} {d : Nat} {Q : JO → JH → Prop} {r0 : Nat} {r1 : Nat} {h : JH} (w : W_X8_cases_104 D d Q r0 r1 h) : JW D (d + 1) mX8_cases 104 [some (vR 41 r0), some (vR 48 r1), none] [] h Q := by
  unfold W_X8_cases_104 at w
  refine jw_aload_n (pc' := 105) rfl rfl ?_
  refine jw_ldcwS (pc' := 108) rfl rfl rfl rfl ?_
  obtain ⟨g_1, w⟩ := w
  refine jw_cV (st := []) (sa := [vR 41 r0, vR 51 (jcs D 261)]) okX8_need rfl rfl rfl rfl rfl rfl (jstp_virtual (sa := [vR 51 (jcs D 261)]) (st := []) (k := 0) rfl rfl sX8_need okX8_need g_1 (one41.k g_1) rfl rfl) w (fun h_2 _ _ w => ?_)
  refine jw_aload_n (pc' := 112) rfl rfl ?_
  exact jw_areturn rfl rfl rfl rfl rfl w
def W_X8_cases_45 (D : JD) (d : Nat) (Q : JO → JH → Prop) (K23 : Nat → Nat → Int32 → JH → Prop) (r0 : Nat) (r1 : Nat) (x2 : Int32) (q0 : Nat) (s1 : Int32) (h : JH) : Prop :=
  q0 ≠ 0 ∧ (cX8_can D d q0 s1 h (pV D h (fun h_2 => r0 ≠ 0 ∧ (cX8_next D d r0 h_2 (pV D h_2 (fun h_6 => cX8_expression D d r0 h_6 (pR D h_6 48 (fun v_11 h_9 => r1 ≠ 0 ∧ (cX46_add D d r1 v_11 h_9 (pV D h_9 (fun h_13 => cX8_need D d r0 (jcs D 259) h_13 (pV D h_13 (fun h_16 => cX8_expression D d r0 h_16 (pR D h_16 48 (fun v_21 h_19 => cX46_add D d r1 v_21 h_19 (pV D h_19 (fun h_22 => K23 r0 r1 (x2 + (1 : Int32)) h_22) (jth Q))) (jth Q))) (jth Q))) (jth Q)))) (jth Q))) (jth Q)))) (jth Q)))
theorem w_X8_cases_45 {D : JD} {d : Nat} {Q : JO → JH → Prop} {K23 : Nat → Nat → Int32 → JH → Prop} {r0 : Nat} {r1 : Nat} {x2 : Int32} {q0 : Nat} {s1 : Int32} {h : JH} (hK23 : ∀ (r0 : Nat) (r1 : Nat) (x2 : Int32) (h : JH), K23 r0 r1 x2 h → JW D (d + 1) mX8_cases 23 [some (vR 41 r0), some (vR 48 r1), some (vI x2)] [] h Q) (w : W_X8_cases_45 D d Q K23 r0 r1 x2 q0 s1 h) : JW D (d + 1) mX8_cases 45 [some (vR 41 r0), some (vR 48 r1), some (vI x2)] [vI s1, vR 41 q0] h Q := by
  unfold W_X8_cases_45 at w
  obtain ⟨g_1, w⟩ := w
  refine jw_cV (st := []) (sa := [vR 41 q0, vI s1]) okX8_can rfl rfl rfl rfl rfl rfl (jstp_virtual (sa := [vI s1]) (st := []) (k := 0) rfl rfl sX8_can okX8_can g_1 (one41.k g_1) rfl rfl) w (fun h_2 _ _ w => ?_)
  refine jw_aload_n (pc' := 49) rfl rfl ?_
  obtain ⟨g_5, w⟩ := w
  refine jw_cV (st := []) (sa := [vR 41 r0]) okX8_next rfl rfl rfl rfl rfl rfl (jstp_virtual (sa := []) (st := []) (k := 0) rfl rfl sX8_next okX8_next g_5 (one41.k g_5) rfl rfl) w (fun h_6 _ _ w => ?_)
  refine jw_aload_n (pc' := 53) rfl rfl ?_
  refine jw_aload_n (pc' := 54) rfl rfl ?_
  refine jw_cR (st := [vR 48 r1]) (sa := [vR 41 r0]) okX8_expression rfl rfl rfl rfl rfl rfl (jstp_virtual (sa := []) (st := [vR 48 r1]) (k := 0) rfl rfl sX8_expression okX8_expression g_5 (one41.k g_5) rfl rfl) w (fun v_11 h_9 _ _ _ w => ?_)
  obtain ⟨g_12, w⟩ := w
  refine jw_cV (st := []) (sa := [vR 48 r1, vR 48 v_11]) okX46_add rfl rfl rfl rfl rfl rfl (jstp_virtual (sa := [vR 48 v_11]) (st := []) (k := 0) rfl rfl sX46_add okX46_add g_12 (one48.k g_12) rfl rfl) w (fun h_13 _ _ w => ?_)
  refine jw_aload_n (pc' := 61) rfl rfl ?_
  refine jw_ldcwS (pc' := 64) rfl rfl rfl rfl ?_
  refine jw_cV (st := []) (sa := [vR 41 r0, vR 51 (jcs D 259)]) okX8_need rfl rfl rfl rfl rfl rfl (jstp_virtual (sa := [vR 51 (jcs D 259)]) (st := []) (k := 0) rfl rfl sX8_need okX8_need g_5 (one41.k g_5) rfl rfl) w (fun h_16 _ _ w => ?_)
  refine jw_aload_n (pc' := 68) rfl rfl ?_
  refine jw_aload_n (pc' := 69) rfl rfl ?_
  refine jw_cR (st := [vR 48 r1]) (sa := [vR 41 r0]) okX8_expression rfl rfl rfl rfl rfl rfl (jstp_virtual (sa := []) (st := [vR 48 r1]) (k := 0) rfl rfl sX8_expression okX8_expression g_5 (one41.k g_5) rfl rfl) w (fun v_21 h_19 _ _ _ w => ?_)
  refine jw_cV (st := []) (sa := [vR 48 r1, vR 48 v_21]) okX46_add rfl rfl rfl rfl rfl rfl (jstp_virtual (sa := [vR 48 v_21]) (st := []) (k := 0) rfl rfl sX46_add okX46_add g_12 (one48.k g_12) rfl rfl) w (fun h_22 _ _ w => ?_)
  refine jw_iinc (pc' := 78) (y := x2 + (1 : Int32)) (ls' := [some (vR 41 r0), some (vR 48 r1), some (vI (x2 + (1 : Int32)))]) rfl (by decide) rfl rfl rfl ?_
  refine jw_goto (pc' := 23) rfl rfl ?_
  exact hK23 _ _ _ _ w
def W_X8_cases_23 (D : JD) (d : Nat) (Q : JO → JH → Prop) (K23 : Nat → Nat → Int32 → JH → Prop) (r0 : Nat) (r1 : Nat) (x2 : Int32) (h : JH) : Prop :=
  r0 ≠ 0 ∧ (cX8_is D d r0 (jcs D 258) h (pI D h (fun v_4 h_2 => (v_4 = 0 → cX8_take D d r0 (jcs D 260) h_2 (pI D h_2 (fun v_8 h_6 => (v_8 = 0 → W_X8_cases_104 D d Q r0 r1 h_6) ∧ (¬ v_8 = 0 → r1 ≠ 0 ∧ ∀ h_11 : JH, h_11 = wfi h_6 306 r1 (1 : Int32) → (cX8_expression D d r0 h_11 (pR D h_11 48 (fun v_15 h_13 => cX46_add D d r1 v_15 h_13 (pV D h_13 (fun h_16 => W_X8_cases_104 D d Q r0 r1 h_16) (jth Q))) (jth Q))))) (jth Q))) ∧ (¬ v_4 = 0 → ((19 : Int32) ≤ x2 → W_X8_cases_45 D d Q K23 r0 r1 x2 r0 (0 : Int32) h_2) ∧ (¬ (19 : Int32) ≤ x2 → W_X8_cases_45 D d Q K23 r0 r1 x2 r0 (1 : Int32) h_2))) (jth Q)))
theorem w_X8_cases_23 {D : JD} {d : Nat} {Q : JO → JH → Prop} {K23 : Nat → Nat → Int32 → JH → Prop} {r0 : Nat} {r1 : Nat} {x2 : Int32} {h : JH} (hK23 : ∀ (r0 : Nat) (r1 : Nat) (x2 : Int32) (h : JH), K23 r0 r1 x2 h → JW D (d + 1) mX8_cases 23 [some (vR 41 r0), some (vR 48 r1), some (vI x2)] [] h Q) (w : W_X8_cases_23 D d Q K23 r0 r1 x2 h) : JW D (d + 1) mX8_cases 23 [some (vR 41 r0), some (vR 48 r1), some (vI x2)] [] h Q := by
  unfold W_X8_cases_23 at w
  refine jw_aload_n (pc' := 24) rfl rfl ?_
  refine jw_ldcwS (pc' := 27) rfl rfl rfl rfl ?_
  obtain ⟨g_1, w⟩ := w
  refine jw_cI (st := []) (sa := [vR 41 r0, vR 51 (jcs D 258)]) okX8_is rfl rfl rfl rfl rfl rfl (jstp_virtual (sa := [vR 51 (jcs D 258)]) (st := []) (k := 0) rfl rfl sX8_is okX8_is g_1 (one41.k g_1) rfl rfl) w (fun v_4 h_2 _ _ w => ?_)
  refine jw_if_eq (tgt := 81) (pc' := 33) rfl rfl (fun c_5 => ?_) (fun c_5 => ?_)
  · replace w := w.1 c_5
    refine jw_aload_n (pc' := 82) rfl rfl ?_
    refine jw_ldcwS (pc' := 85) rfl rfl rfl rfl ?_
    refine jw_cI (st := []) (sa := [vR 41 r0, vR 51 (jcs D 260)]) okX8_take rfl rfl rfl rfl rfl rfl (jstp_virtual (sa := [vR 51 (jcs D 260)]) (st := []) (k := 0) rfl rfl sX8_take okX8_take g_1 (one41.k g_1) rfl rfl) w (fun v_8 h_6 _ _ w => ?_)
    refine jw_if_eq (tgt := 104) (pc' := 91) rfl rfl (fun c_9 => ?_) (fun c_9 => ?_)
    · replace w := w.1 c_9
      refine jw_gen (ls' := [some (vR 41 r0), some (vR 48 r1), none]) (st' := []) (And.intro (Or.inl rfl) (And.intro (Or.inl rfl) (trivial))) (trivial) ?_
      exact w_X8_cases_104 w
    · replace w := w.2 c_9
      refine jw_aload_n (pc' := 92) rfl rfl ?_
      refine jw_iconst (pc' := 93) (x := (1 : Int32)) rfl rfl ?_
      obtain ⟨g_10, w⟩ := w
      refine jw_putI' (pc' := 96) (F := 306) rfl rfl rfl (Or.inr rfl) (Or.inl rfl) rfl (rfl) (rfl) rfl g_10 (fun h_11 e_12 => ?_)
      replace w := w h_11 e_12
      refine jw_aload_n (pc' := 97) rfl rfl ?_
      refine jw_aload_n (pc' := 98) rfl rfl ?_
      refine jw_cR (st := [vR 48 r1]) (sa := [vR 41 r0]) okX8_expression rfl rfl rfl rfl rfl rfl (jstp_virtual (sa := []) (st := [vR 48 r1]) (k := 0) rfl rfl sX8_expression okX8_expression g_1 (one41.k g_1) rfl rfl) w (fun v_15 h_13 _ _ _ w => ?_)
      refine jw_cV (st := []) (sa := [vR 48 r1, vR 48 v_15]) okX46_add rfl rfl rfl rfl rfl rfl (jstp_virtual (sa := [vR 48 v_15]) (st := []) (k := 0) rfl rfl sX46_add okX46_add g_10 (one48.k g_10) rfl rfl) w (fun h_16 _ _ w => ?_)
      refine jw_gen (ls' := [some (vR 41 r0), some (vR 48 r1), none]) (st' := []) (And.intro (Or.inl rfl) (And.intro (Or.inl rfl) (trivial))) (trivial) ?_
      exact w_X8_cases_104 w
  · replace w := w.2 c_5
    refine jw_aload_n (pc' := 34) rfl rfl ?_
    refine jw_iload_n (pc' := 35) rfl rfl ?_
    refine jw_bipush (pc' := 37) (x := (19 : Int32)) rfl rfl ?_
    refine jw_icmp_ge (tgt := 44) (pc' := 40) rfl rfl (fun c_19 => ?_) (fun c_19 => ?_)
    · replace w := w.1 c_19
      refine jw_iconst (pc' := 45) (x := (0 : Int32)) rfl rfl ?_
      exact w_X8_cases_45 hK23 w
    · replace w := w.2 c_19
      refine jw_iconst (pc' := 41) (x := (1 : Int32)) rfl rfl ?_
      refine jw_goto (pc' := 45) rfl rfl ?_
      exact w_X8_cases_45 hK23 w
def L_X8_cases_23 (D : JD) (d : Nat) (Q : JO → JH → Prop) : Nat → Nat → Nat → Int32 → JH → Prop
  | 0 => fun _ _ _ _ => False
  | n + 1 => fun r0 r1 x2 h => W_X8_cases_23 D d Q (L_X8_cases_23 D d Q n) r0 r1 x2 h
theorem l_X8_cases_23 {D : JD} {d : Nat} {Q : JO → JH → Prop} : ∀ (n : Nat) (r0 : Nat) (r1 : Nat) (x2 : Int32) (h : JH), L_X8_cases_23 D d Q n r0 r1 x2 h → JW D (d + 1) mX8_cases 23 [some (vR 41 r0), some (vR 48 r1), some (vI x2)] [] h Q := by
  intro n
  induction n with
  | zero => intro _ _ _ _ w; exact w.elim
  | succ n ih => intro _ _ _ h w; exact w_X8_cases_23 ih w
def W_X8_cases_0 (D : JD) (d : Nat) (Q : JO → JH → Prop) (r0 : Nat) (h : JH) : Prop :=
  r0 ≠ 0 ∧ (cX8_next D d r0 h (pV D h (fun h_2 => cX8_node D d (4 : Int32) (0 : Int32) h_2 (pR D h_2 48 (fun v_7 h_5 => cX8_is D d r0 (jcs D 258) h_5 (pI D h_5 (fun v_10 h_8 => cX8_can D d r0 v_10 h_8 (pV D h_8 (fun h_11 => ∃ n, L_X8_cases_23 D d Q n r0 v_7 (0 : Int32) h_11) (jth Q))) (jth Q))) (jth Q))) (jth Q)))
theorem w_X8_cases_0 {D : JD} {d : Nat} {Q : JO → JH → Prop} {r0 : Nat} {h : JH} (w : W_X8_cases_0 D d Q r0 h) : JW D (d + 1) mX8_cases 0 [some (vR 41 r0), none, none] [] h Q := by
  unfold W_X8_cases_0 at w
  refine jw_aload_n (pc' := 1) rfl rfl ?_
  obtain ⟨g_1, w⟩ := w
  refine jw_cV (st := []) (sa := [vR 41 r0]) okX8_next rfl rfl rfl rfl rfl rfl (jstp_virtual (sa := []) (st := []) (k := 0) rfl rfl sX8_next okX8_next g_1 (one41.k g_1) rfl rfl) w (fun h_2 _ _ w => ?_)
  refine jw_iconst (pc' := 5) (x := (4 : Int32)) rfl rfl ?_
  refine jw_iconst (pc' := 6) (x := (0 : Int32)) rfl rfl ?_
  refine jw_cR (st := []) (sa := [vI (4 : Int32), vI (0 : Int32)]) okX8_node rfl rfl rfl rfl rfl rfl (jstp_static (sa := [vI (4 : Int32), vI (0 : Int32)]) (st := []) rfl rfl sX8_node okX8_node rfl rfl) w (fun v_7 h_5 _ _ _ w => ?_)
  refine jw_astore_n (pc' := 10) (ls' := [some (vR 41 r0), some (vR 48 v_7), none]) rfl (by decide) rfl ?_
  refine jw_iconst (pc' := 11) (x := (0 : Int32)) rfl rfl ?_
  refine jw_istore_n (pc' := 12) (ls' := [some (vR 41 r0), some (vR 48 v_7), some (vI (0 : Int32))]) rfl (by decide) rfl ?_
  refine jw_aload_n (pc' := 13) rfl rfl ?_
  refine jw_aload_n (pc' := 14) rfl rfl ?_
  refine jw_ldcwS (pc' := 17) rfl rfl rfl rfl ?_
  refine jw_cI (st := [vR 41 r0]) (sa := [vR 41 r0, vR 51 (jcs D 258)]) okX8_is rfl rfl rfl rfl rfl rfl (jstp_virtual (sa := [vR 51 (jcs D 258)]) (st := [vR 41 r0]) (k := 0) rfl rfl sX8_is okX8_is g_1 (one41.k g_1) rfl rfl) w (fun v_10 h_8 _ _ w => ?_)
  refine jw_cV (st := []) (sa := [vR 41 r0, vI v_10]) okX8_can rfl rfl rfl rfl rfl rfl (jstp_virtual (sa := [vI v_10]) (st := []) (k := 0) rfl rfl sX8_can okX8_can g_1 (one41.k g_1) rfl rfl) w (fun h_11 _ _ w => ?_)
  obtain ⟨n, w⟩ := w
  exact l_X8_cases_23 n _ _ _ _ w
def T_X8_cases (D : JD) (d : Nat) (Q : JO → JH → Prop) (r0 : Nat) (h : JH) : Prop := W_X8_cases_0 D d Q r0 h
theorem t_X8_cases {D : JD} {d : Nat} {Q : JO → JH → Prop} {r0 : Nat} {h : JH} (w : T_X8_cases D d Q r0 h) : cX8_cases D (d + 1) r0 h Q := by
  unfold T_X8_cases at w
  unfold cX8_cases
  exact w_X8_cases_0 w
def W_X8_list_14 (D : JD) (d : Nat) (Q : JO → JH → Prop) (K2 : Nat → Nat → Int32 → JH → Prop) (r0 : Nat) (r1 : Nat) (x2 : Int32) (q0 : Nat) (s1 : Int32) (h : JH) : Prop :=
  q0 ≠ 0 ∧ (cX8_can D d q0 s1 h (pV D h (fun h_2 => r0 ≠ 0 ∧ (cX8_expression D d r0 h_2 (pR D h_2 48 (fun v_8 h_6 => r1 ≠ 0 ∧ (cX46_add D d r1 v_8 h_6 (pV D h_6 (fun h_10 => cX8_take D d r0 (jcs D 248) h_10 (pI D h_10 (fun v_15 h_13 => (¬ v_15 = 0 → K2 r0 r1 (x2 + (1 : Int32)) h_13) ∧ (v_15 = 0 → Q (.inl none) h_13)) (jth Q))) (jth Q)))) (jth Q)))) (jth Q)))
theorem w_X8_list_14 {D : JD} {d : Nat} {Q : JO → JH → Prop} {K2 : Nat → Nat → Int32 → JH → Prop} {r0 : Nat} {r1 : Nat} {x2 : Int32} {q0 : Nat} {s1 : Int32} {h : JH} (hK2 : ∀ (r0 : Nat) (r1 : Nat) (x2 : Int32) (h : JH), K2 r0 r1 x2 h → JW D (d + 1) mX8_list 2 [some (vR 41 r0), some (vR 48 r1), some (vI x2)] [] h Q) (w : W_X8_list_14 D d Q K2 r0 r1 x2 q0 s1 h) : JW D (d + 1) mX8_list 14 [some (vR 41 r0), some (vR 48 r1), some (vI x2)] [vI s1, vR 41 q0] h Q := by
  unfold W_X8_list_14 at w
  obtain ⟨g_1, w⟩ := w
  refine jw_cV (st := []) (sa := [vR 41 q0, vI s1]) okX8_can rfl rfl rfl rfl rfl rfl (jstp_virtual (sa := [vI s1]) (st := []) (k := 0) rfl rfl sX8_can okX8_can g_1 (one41.k g_1) rfl rfl) w (fun h_2 _ _ w => ?_)
  refine jw_aload_n (pc' := 18) rfl rfl ?_
  refine jw_aload_n (pc' := 19) rfl rfl ?_
  obtain ⟨g_5, w⟩ := w
  refine jw_cR (st := [vR 48 r1]) (sa := [vR 41 r0]) okX8_expression rfl rfl rfl rfl rfl rfl (jstp_virtual (sa := []) (st := [vR 48 r1]) (k := 0) rfl rfl sX8_expression okX8_expression g_5 (one41.k g_5) rfl rfl) w (fun v_8 h_6 _ _ _ w => ?_)
  obtain ⟨g_9, w⟩ := w
  refine jw_cV (st := []) (sa := [vR 48 r1, vR 48 v_8]) okX46_add rfl rfl rfl rfl rfl rfl (jstp_virtual (sa := [vR 48 v_8]) (st := []) (k := 0) rfl rfl sX46_add okX46_add g_9 (one48.k g_9) rfl rfl) w (fun h_10 _ _ w => ?_)
  refine jw_iinc (pc' := 28) (y := x2 + (1 : Int32)) (ls' := [some (vR 41 r0), some (vR 48 r1), some (vI (x2 + (1 : Int32)))]) rfl (by decide) rfl rfl rfl ?_
  refine jw_aload_n (pc' := 29) rfl rfl ?_
  refine jw_ldcwS (pc' := 32) rfl rfl rfl rfl ?_
  refine jw_cI (st := []) (sa := [vR 41 r0, vR 51 (jcs D 248)]) okX8_take rfl rfl rfl rfl rfl rfl (jstp_virtual (sa := [vR 51 (jcs D 248)]) (st := []) (k := 0) rfl rfl sX8_take okX8_take g_5 (one41.k g_5) rfl rfl) w (fun v_15 h_13 _ _ w => ?_)
  refine jw_if_ne (tgt := 2) (pc' := 38) rfl rfl (fun c_16 => ?_) (fun c_16 => ?_)
  · replace w := w.1 c_16
    exact hK2 _ _ _ _ w
  · replace w := w.2 c_16
    exact jw_return rfl rfl w
def W_X8_list_2 (D : JD) (d : Nat) (Q : JO → JH → Prop) (K2 : Nat → Nat → Int32 → JH → Prop) (r0 : Nat) (r1 : Nat) (x2 : Int32) (h : JH) : Prop :=
  ((8 : Int32) ≤ x2 → W_X8_list_14 D d Q K2 r0 r1 x2 r0 (0 : Int32) h) ∧ (¬ (8 : Int32) ≤ x2 → W_X8_list_14 D d Q K2 r0 r1 x2 r0 (1 : Int32) h)
theorem w_X8_list_2 {D : JD} {d : Nat} {Q : JO → JH → Prop} {K2 : Nat → Nat → Int32 → JH → Prop} {r0 : Nat} {r1 : Nat} {x2 : Int32} {h : JH} (hK2 : ∀ (r0 : Nat) (r1 : Nat) (x2 : Int32) (h : JH), K2 r0 r1 x2 h → JW D (d + 1) mX8_list 2 [some (vR 41 r0), some (vR 48 r1), some (vI x2)] [] h Q) (w : W_X8_list_2 D d Q K2 r0 r1 x2 h) : JW D (d + 1) mX8_list 2 [some (vR 41 r0), some (vR 48 r1), some (vI x2)] [] h Q := by
  unfold W_X8_list_2 at w
  refine jw_aload_n (pc' := 3) rfl rfl ?_
  refine jw_iload_n (pc' := 4) rfl rfl ?_
  refine jw_bipush (pc' := 6) (x := (8 : Int32)) rfl rfl ?_
  refine jw_icmp_ge (tgt := 13) (pc' := 9) rfl rfl (fun c_1 => ?_) (fun c_1 => ?_)
  · replace w := w.1 c_1
    refine jw_iconst (pc' := 14) (x := (0 : Int32)) rfl rfl ?_
    exact w_X8_list_14 hK2 w
  · replace w := w.2 c_1
    refine jw_iconst (pc' := 10) (x := (1 : Int32)) rfl rfl ?_
    refine jw_goto (pc' := 14) rfl rfl ?_
    exact w_X8_list_14 hK2 w
def L_X8_list_2 (D : JD) (d : Nat) (Q : JO → JH → Prop) : Nat → Nat → Nat → Int32 → JH → Prop
  | 0 => fun _ _ _ _ => False
  | n + 1 => fun r0 r1 x2 h => W_X8_list_2 D d Q (L_X8_list_2 D d Q n) r0 r1 x2 h
theorem l_X8_list_2 {D : JD} {d : Nat} {Q : JO → JH → Prop} : ∀ (n : Nat) (r0 : Nat) (r1 : Nat) (x2 : Int32) (h : JH), L_X8_list_2 D d Q n r0 r1 x2 h → JW D (d + 1) mX8_list 2 [some (vR 41 r0), some (vR 48 r1), some (vI x2)] [] h Q := by
  intro n
  induction n with
  | zero => intro _ _ _ _ w; exact w.elim
  | succ n ih => intro _ _ _ h w; exact w_X8_list_2 ih w
def W_X8_list_0 (D : JD) (d : Nat) (Q : JO → JH → Prop) (r0 : Nat) (r1 : Nat) (h : JH) : Prop :=
  ∃ n, L_X8_list_2 D d Q n r0 r1 (0 : Int32) h
theorem w_X8_list_0 {D : JD} {d : Nat} {Q : JO → JH → Prop} {r0 : Nat} {r1 : Nat} {h : JH} (w : W_X8_list_0 D d Q r0 r1 h) : JW D (d + 1) mX8_list 0 [some (vR 41 r0), some (vR 48 r1), none] [] h Q := by
  unfold W_X8_list_0 at w
  refine jw_iconst (pc' := 1) (x := (0 : Int32)) rfl rfl ?_
  refine jw_istore_n (pc' := 2) (ls' := [some (vR 41 r0), some (vR 48 r1), some (vI (0 : Int32))]) rfl (by decide) rfl ?_
  obtain ⟨n, w⟩ := w
  exact l_X8_list_2 n _ _ _ _ w
def T_X8_list (D : JD) (d : Nat) (Q : JO → JH → Prop) (r0 : Nat) (r1 : Nat) (h : JH) : Prop := W_X8_list_0 D d Q r0 r1 h
theorem t_X8_list {D : JD} {d : Nat} {Q : JO → JH → Prop} {r0 : Nat} {r1 : Nat} {h : JH} (w : T_X8_list D d Q r0 r1 h) : cX8_list D (d + 1) r0 r1 h Q := by
  unfold T_X8_list at w
  unfold cX8_list
  exact w_X8_list_0 w
def W_X8_operator_16 (D : JD) (d : Nat) (Q : JO → JH → Prop) (r0 : Nat) (q0 : Nat) (s1 : Int32) (h : JH) : Prop :=
  q0 ≠ 0 ∧ (cX8_can D d q0 s1 h (pV D h (fun h_2 => r0 ≠ 0 ∧ (∀ h_6 : JH, h_6 = wfi h_2 190 r0 ((jfi h_2 190 r0) + (1 : Int32)) → (Q (.inl none) h_6))) (jth Q)))
theorem w_X8_operator_16 {D : JD} {d : Nat} {Q : JO → JH → Prop} {r0 : Nat} {q0 : Nat} {s1 : Int32} {h : JH} (w : W_X8_operator_16 D d Q r0 q0 s1 h) : JW D (d + 1) mX8_operator 16 [some (vR 41 r0)] [vI s1, vR 41 q0] h Q := by
  unfold W_X8_operator_16 at w
  obtain ⟨g_1, w⟩ := w
  refine jw_cV (st := []) (sa := [vR 41 q0, vI s1]) okX8_can rfl rfl rfl rfl rfl rfl (jstp_virtual (sa := [vI s1]) (st := []) (k := 0) rfl rfl sX8_can okX8_can g_1 (one41.k g_1) rfl rfl) w (fun h_2 _ _ w => ?_)
  refine jw_aload_n (pc' := 20) rfl rfl ?_
  refine jw_dup (pc' := 21) rfl rfl ?_
  obtain ⟨g_5, w⟩ := w
  refine jw_getI (pc' := 24) (F := 190) rfl rfl rfl rfl g_5 ?_
  refine jw_iconst (pc' := 25) (x := (1 : Int32)) rfl rfl ?_
  refine jw_iadd (pc' := 26) rfl ?_
  refine jw_putI' (pc' := 29) (F := 190) rfl rfl rfl (Or.inr rfl) (Or.inl rfl) rfl (rfl) (rfl) rfl g_5 (fun h_6 e_7 => ?_)
  replace w := w h_6 e_7
  exact jw_return rfl rfl w
def W_X8_operator_0 (D : JD) (d : Nat) (Q : JO → JH → Prop) (r0 : Nat) (h : JH) : Prop :=
  r0 ≠ 0 ∧ (((300 : Int32) ≤ (jfi h 190 r0) → W_X8_operator_16 D d Q r0 r0 (0 : Int32) h) ∧ (¬ (300 : Int32) ≤ (jfi h 190 r0) → W_X8_operator_16 D d Q r0 r0 (1 : Int32) h))
theorem w_X8_operator_0 {D : JD} {d : Nat} {Q : JO → JH → Prop} {r0 : Nat} {h : JH} (w : W_X8_operator_0 D d Q r0 h) : JW D (d + 1) mX8_operator 0 [some (vR 41 r0)] [] h Q := by
  unfold W_X8_operator_0 at w
  refine jw_aload_n (pc' := 1) rfl rfl ?_
  refine jw_aload_n (pc' := 2) rfl rfl ?_
  obtain ⟨g_1, w⟩ := w
  refine jw_getI (pc' := 5) (F := 190) rfl rfl rfl rfl g_1 ?_
  refine jw_sipush (pc' := 8) (x := (300 : Int32)) rfl rfl ?_
  refine jw_icmp_ge (tgt := 15) (pc' := 11) rfl rfl (fun c_2 => ?_) (fun c_2 => ?_)
  · replace w := w.1 c_2
    refine jw_iconst (pc' := 16) (x := (0 : Int32)) rfl rfl ?_
    exact w_X8_operator_16 w
  · replace w := w.2 c_2
    refine jw_iconst (pc' := 12) (x := (1 : Int32)) rfl rfl ?_
    refine jw_goto (pc' := 16) rfl rfl ?_
    exact w_X8_operator_16 w
def T_X8_operator (D : JD) (d : Nat) (Q : JO → JH → Prop) (r0 : Nat) (h : JH) : Prop := W_X8_operator_0 D d Q r0 h
theorem t_X8_operator {D : JD} {d : Nat} {Q : JO → JH → Prop} {r0 : Nat} {h : JH} (w : T_X8_operator D d Q r0 h) : cX8_operator D (d + 1) r0 h Q := by
  unfold T_X8_operator at w
  unfold cX8_operator
  exact w_X8_operator_0 w
def W_X8_pair_0 (D : JD) (d : Nat) (Q : JO → JH → Prop) (x0 : Int32) (x1 : Int32) (r2 : Nat) (r3 : Nat) (h : JH) : Prop :=
  cX8_node D d x0 x1 h (pR D h 48 (fun v_3 h_1 => v_3 ≠ 0 ∧ (cX46_add D d v_3 r2 h_1 (pV D h_1 (fun h_5 => cX46_add D d v_3 r3 h_5 (pV D h_5 (fun h_8 => Q (.inl (some (vR 48 v_3))) h_8) (jth Q))) (jth Q)))) (jth Q))
theorem w_X8_pair_0 {D : JD} {d : Nat} {Q : JO → JH → Prop} {x0 : Int32} {x1 : Int32} {r2 : Nat} {r3 : Nat} {h : JH} (w : W_X8_pair_0 D d Q x0 x1 r2 r3 h) : JW D (d + 1) mX8_pair 0 [some (vI x0), some (vI x1), some (vR 48 r2), some (vR 48 r3), none] [] h Q := by
  unfold W_X8_pair_0 at w
  refine jw_iload_n (pc' := 1) rfl rfl ?_
  refine jw_iload_n (pc' := 2) rfl rfl ?_
  refine jw_cR (st := []) (sa := [vI x0, vI x1]) okX8_node rfl rfl rfl rfl rfl rfl (jstp_static (sa := [vI x0, vI x1]) (st := []) rfl rfl sX8_node okX8_node rfl rfl) w (fun v_3 h_1 _ _ _ w => ?_)
  refine jw_astore (pc' := 7) (ls' := [some (vI x0), some (vI x1), some (vR 48 r2), some (vR 48 r3), some (vR 48 v_3)]) rfl (by decide) rfl ?_
  refine jw_aload (pc' := 9) rfl rfl ?_
  refine jw_aload_n (pc' := 10) rfl rfl ?_
  obtain ⟨g_4, w⟩ := w
  refine jw_cV (st := []) (sa := [vR 48 v_3, vR 48 r2]) okX46_add rfl rfl rfl rfl rfl rfl (jstp_virtual (sa := [vR 48 r2]) (st := []) (k := 0) rfl rfl sX46_add okX46_add g_4 (one48.k g_4) rfl rfl) w (fun h_5 _ _ w => ?_)
  refine jw_aload (pc' := 15) rfl rfl ?_
  refine jw_aload_n (pc' := 16) rfl rfl ?_
  refine jw_cV (st := []) (sa := [vR 48 v_3, vR 48 r3]) okX46_add rfl rfl rfl rfl rfl rfl (jstp_virtual (sa := [vR 48 r3]) (st := []) (k := 0) rfl rfl sX46_add okX46_add g_4 (one48.k g_4) rfl rfl) w (fun h_8 _ _ w => ?_)
  refine jw_aload (pc' := 21) rfl rfl ?_
  exact jw_areturn rfl rfl rfl rfl rfl w
def T_X8_pair (D : JD) (d : Nat) (Q : JO → JH → Prop) (x0 : Int32) (x1 : Int32) (r2 : Nat) (r3 : Nat) (h : JH) : Prop := W_X8_pair_0 D d Q x0 x1 r2 r3 h
theorem t_X8_pair {D : JD} {d : Nat} {Q : JO → JH → Prop} {x0 : Int32} {x1 : Int32} {r2 : Nat} {r3 : Nat} {h : JH} (w : T_X8_pair D d Q x0 x1 r2 r3 h) : cX8_pair D (d + 1) x0 x1 r2 r3 h Q := by
  unfold T_X8_pair at w
  unfold cX8_pair
  exact w_X8_pair_0 w
def W_X8_within_78 (D : JD) (d : Nat) (Q : JO → JH → Prop) (r0 : Nat) (r1 : Nat) (h : JH) : Prop :=
  r0 ≠ 0 ∧ (cX8_need D d r0 (jcs D 271) h (pV D h (fun h_2 => cX8_node D d (7 : Int32) (0 : Int32) h_2 (pR D h_2 48 (fun v_7 h_5 => v_7 ≠ 0 ∧ (cX46_add D d v_7 r1 h_5 (pV D h_5 (fun h_9 => cX8_sum D d r0 h_9 (pR D h_9 48 (fun v_14 h_12 => cX46_add D d v_7 v_14 h_12 (pV D h_12 (fun h_15 => cX8_need D d r0 (jcs D 272) h_15 (pV D h_15 (fun h_18 => cX8_sum D d r0 h_18 (pR D h_18 48 (fun v_23 h_21 => cX46_add D d v_7 v_23 h_21 (pV D h_21 (fun h_24 => Q (.inl (some (vR 48 v_7))) h_24) (jth Q))) (jth Q))) (jth Q))) (jth Q))) (jth Q))) (jth Q)))) (jth Q))) (jth Q)))
theorem w_X8_within_78 {D : JD} {d : Nat} {Q : JO → JH → Prop} {r0 : Nat} {r1 : Nat} {h : JH} (w : W_X8_within_78 D d Q r0 r1 h) : JW D (d + 1) mX8_within 78 [some (vR 41 r0), some (vR 48 r1), none, none] [] h Q := by
  unfold W_X8_within_78 at w
  refine jw_aload_n (pc' := 79) rfl rfl ?_
  refine jw_ldcwS (pc' := 82) rfl rfl rfl rfl ?_
  obtain ⟨g_1, w⟩ := w
  refine jw_cV (st := []) (sa := [vR 41 r0, vR 51 (jcs D 271)]) okX8_need rfl rfl rfl rfl rfl rfl (jstp_virtual (sa := [vR 51 (jcs D 271)]) (st := []) (k := 0) rfl rfl sX8_need okX8_need g_1 (one41.k g_1) rfl rfl) w (fun h_2 _ _ w => ?_)
  refine jw_bipush (pc' := 87) (x := (7 : Int32)) rfl rfl ?_
  refine jw_iconst (pc' := 88) (x := (0 : Int32)) rfl rfl ?_
  refine jw_cR (st := []) (sa := [vI (7 : Int32), vI (0 : Int32)]) okX8_node rfl rfl rfl rfl rfl rfl (jstp_static (sa := [vI (7 : Int32), vI (0 : Int32)]) (st := []) rfl rfl sX8_node okX8_node rfl rfl) w (fun v_7 h_5 _ _ _ w => ?_)
  refine jw_astore_n (pc' := 92) (ls' := [some (vR 41 r0), some (vR 48 r1), none, some (vR 48 v_7)]) rfl (by decide) rfl ?_
  refine jw_aload_n (pc' := 93) rfl rfl ?_
  refine jw_aload_n (pc' := 94) rfl rfl ?_
  obtain ⟨g_8, w⟩ := w
  refine jw_cV (st := []) (sa := [vR 48 v_7, vR 48 r1]) okX46_add rfl rfl rfl rfl rfl rfl (jstp_virtual (sa := [vR 48 r1]) (st := []) (k := 0) rfl rfl sX46_add okX46_add g_8 (one48.k g_8) rfl rfl) w (fun h_9 _ _ w => ?_)
  refine jw_aload_n (pc' := 98) rfl rfl ?_
  refine jw_aload_n (pc' := 99) rfl rfl ?_
  refine jw_cR (st := [vR 48 v_7]) (sa := [vR 41 r0]) okX8_sum rfl rfl rfl rfl rfl rfl (jstp_virtual (sa := []) (st := [vR 48 v_7]) (k := 0) rfl rfl sX8_sum okX8_sum g_1 (one41.k g_1) rfl rfl) w (fun v_14 h_12 _ _ _ w => ?_)
  refine jw_cV (st := []) (sa := [vR 48 v_7, vR 48 v_14]) okX46_add rfl rfl rfl rfl rfl rfl (jstp_virtual (sa := [vR 48 v_14]) (st := []) (k := 0) rfl rfl sX46_add okX46_add g_8 (one48.k g_8) rfl rfl) w (fun h_15 _ _ w => ?_)
  refine jw_aload_n (pc' := 106) rfl rfl ?_
  refine jw_ldcwS (pc' := 109) rfl rfl rfl rfl ?_
  refine jw_cV (st := []) (sa := [vR 41 r0, vR 51 (jcs D 272)]) okX8_need rfl rfl rfl rfl rfl rfl (jstp_virtual (sa := [vR 51 (jcs D 272)]) (st := []) (k := 0) rfl rfl sX8_need okX8_need g_1 (one41.k g_1) rfl rfl) w (fun h_18 _ _ w => ?_)
  refine jw_aload_n (pc' := 113) rfl rfl ?_
  refine jw_aload_n (pc' := 114) rfl rfl ?_
  refine jw_cR (st := [vR 48 v_7]) (sa := [vR 41 r0]) okX8_sum rfl rfl rfl rfl rfl rfl (jstp_virtual (sa := []) (st := [vR 48 v_7]) (k := 0) rfl rfl sX8_sum okX8_sum g_1 (one41.k g_1) rfl rfl) w (fun v_23 h_21 _ _ _ w => ?_)
  refine jw_cV (st := []) (sa := [vR 48 v_7, vR 48 v_23]) okX46_add rfl rfl rfl rfl rfl rfl (jstp_virtual (sa := [vR 48 v_23]) (st := []) (k := 0) rfl rfl sX46_add okX46_add g_8 (one48.k g_8) rfl rfl) w (fun h_24 _ _ w => ?_)
  refine jw_aload_n (pc' := 121) rfl rfl ?_
  exact jw_areturn rfl rfl rfl rfl rfl w
def W_X8_within_0 (D : JD) (d : Nat) (Q : JO → JH → Prop) (r0 : Nat) (r1 : Nat) (x2 : Int32) (h : JH) : Prop :=
  r0 ≠ 0 ∧ (cX8_take D d r0 (jcs D 269) h (pI D h (fun v_4 h_2 => (v_4 = 0 → cX8_take D d r0 (jcs D 270) h_2 (pI D h_2 (fun v_8 h_6 => (v_8 = 0 → (¬ x2 = 0 → W_X8_within_78 D d Q r0 r1 h_6) ∧ (x2 = 0 → cX8_is D d r0 (jcs D 271) h_6 (pI D h_6 (fun v_13 h_11 => (v_13 = 0 → Q (.inl (some (vR 48 r1))) h_11) ∧ (¬ v_13 = 0 → W_X8_within_78 D d Q r0 r1 h_11)) (jth Q)))) ∧ (¬ v_8 = 0 → cX8_sum D d r0 h_6 (pR D h_6 48 (fun v_17 h_15 => cX8_pair D d (6 : Int32) (0 : Int32) r1 v_17 h_15 (pR D h_15 48 (fun v_20 h_18 => Q (.inl (some (vR 48 v_20))) h_18) (jth Q))) (jth Q)))) (jth Q))) ∧ (¬ v_4 = 0 → cX8_node D d (5 : Int32) (0 : Int32) h_2 (pR D h_2 48 (fun v_23 h_21 => v_23 ≠ 0 ∧ (cX46_add D d v_23 r1 h_21 (pV D h_21 (fun h_25 => cX8_need D d r0 (jcs D 239) h_25 (pV D h_25 (fun h_28 => cX8_list D d r0 v_23 h_28 (pV D h_28 (fun h_31 => cX8_need D d r0 (jcs D 249) h_31 (pV D h_31 (fun h_34 => Q (.inl (some (vR 48 v_23))) h_34) (jth Q))) (jth Q))) (jth Q))) (jth Q)))) (jth Q)))) (jth Q)))
theorem w_X8_within_0 {D : JD} {d : Nat} {Q : JO → JH → Prop} {r0 : Nat} {r1 : Nat} {x2 : Int32} {h : JH} (w : W_X8_within_0 D d Q r0 r1 x2 h) : JW D (d + 1) mX8_within 0 [some (vR 41 r0), some (vR 48 r1), some (vI x2), none] [] h Q := by
  unfold W_X8_within_0 at w
  refine jw_aload_n (pc' := 1) rfl rfl ?_
  refine jw_ldcwS (pc' := 4) rfl rfl rfl rfl ?_
  obtain ⟨g_1, w⟩ := w
  refine jw_cI (st := []) (sa := [vR 41 r0, vR 51 (jcs D 269)]) okX8_take rfl rfl rfl rfl rfl rfl (jstp_virtual (sa := [vR 51 (jcs D 269)]) (st := []) (k := 0) rfl rfl sX8_take okX8_take g_1 (one41.k g_1) rfl rfl) w (fun v_4 h_2 _ _ w => ?_)
  refine jw_if_eq (tgt := 42) (pc' := 10) rfl rfl (fun c_5 => ?_) (fun c_5 => ?_)
  · replace w := w.1 c_5
    refine jw_aload_n (pc' := 43) rfl rfl ?_
    refine jw_ldcwS (pc' := 46) rfl rfl rfl rfl ?_
    refine jw_cI (st := []) (sa := [vR 41 r0, vR 51 (jcs D 270)]) okX8_take rfl rfl rfl rfl rfl rfl (jstp_virtual (sa := [vR 51 (jcs D 270)]) (st := []) (k := 0) rfl rfl sX8_take okX8_take g_1 (one41.k g_1) rfl rfl) w (fun v_8 h_6 _ _ w => ?_)
    refine jw_if_eq (tgt := 64) (pc' := 52) rfl rfl (fun c_9 => ?_) (fun c_9 => ?_)
    · replace w := w.1 c_9
      refine jw_iload_n (pc' := 65) rfl rfl ?_
      refine jw_if_ne (tgt := 78) (pc' := 68) rfl rfl (fun c_10 => ?_) (fun c_10 => ?_)
      · replace w := w.1 c_10
        refine jw_gen (ls' := [some (vR 41 r0), some (vR 48 r1), none, none]) (st' := []) (And.intro (Or.inl rfl) (And.intro (Or.inl rfl) (trivial))) (trivial) ?_
        exact w_X8_within_78 w
      · replace w := w.2 c_10
        refine jw_aload_n (pc' := 69) rfl rfl ?_
        refine jw_ldcwS (pc' := 72) rfl rfl rfl rfl ?_
        refine jw_cI (st := []) (sa := [vR 41 r0, vR 51 (jcs D 271)]) okX8_is rfl rfl rfl rfl rfl rfl (jstp_virtual (sa := [vR 51 (jcs D 271)]) (st := []) (k := 0) rfl rfl sX8_is okX8_is g_1 (one41.k g_1) rfl rfl) w (fun v_13 h_11 _ _ w => ?_)
        refine jw_if_eq (tgt := 122) (pc' := 78) rfl rfl (fun c_14 => ?_) (fun c_14 => ?_)
        · replace w := w.1 c_14
          refine jw_aload_n (pc' := 123) rfl rfl ?_
          exact jw_areturn rfl rfl rfl rfl rfl w
        · replace w := w.2 c_14
          refine jw_gen (ls' := [some (vR 41 r0), some (vR 48 r1), none, none]) (st' := []) (And.intro (Or.inl rfl) (And.intro (Or.inl rfl) (trivial))) (trivial) ?_
          exact w_X8_within_78 w
    · replace w := w.2 c_9
      refine jw_bipush (pc' := 54) (x := (6 : Int32)) rfl rfl ?_
      refine jw_iconst (pc' := 55) (x := (0 : Int32)) rfl rfl ?_
      refine jw_aload_n (pc' := 56) rfl rfl ?_
      refine jw_aload_n (pc' := 57) rfl rfl ?_
      refine jw_cR (st := [vR 48 r1, vI (0 : Int32), vI (6 : Int32)]) (sa := [vR 41 r0]) okX8_sum rfl rfl rfl rfl rfl rfl (jstp_virtual (sa := []) (st := [vR 48 r1, vI (0 : Int32), vI (6 : Int32)]) (k := 0) rfl rfl sX8_sum okX8_sum g_1 (one41.k g_1) rfl rfl) w (fun v_17 h_15 _ _ _ w => ?_)
      refine jw_cR (st := []) (sa := [vI (6 : Int32), vI (0 : Int32), vR 48 r1, vR 48 v_17]) okX8_pair rfl rfl rfl rfl rfl rfl (jstp_static (sa := [vI (6 : Int32), vI (0 : Int32), vR 48 r1, vR 48 v_17]) (st := []) rfl rfl sX8_pair okX8_pair rfl rfl) w (fun v_20 h_18 _ _ _ w => ?_)
      exact jw_areturn rfl rfl rfl rfl rfl w
  · replace w := w.2 c_5
    refine jw_iconst (pc' := 11) (x := (5 : Int32)) rfl rfl ?_
    refine jw_iconst (pc' := 12) (x := (0 : Int32)) rfl rfl ?_
    refine jw_cR (st := []) (sa := [vI (5 : Int32), vI (0 : Int32)]) okX8_node rfl rfl rfl rfl rfl rfl (jstp_static (sa := [vI (5 : Int32), vI (0 : Int32)]) (st := []) rfl rfl sX8_node okX8_node rfl rfl) w (fun v_23 h_21 _ _ _ w => ?_)
    refine jw_astore_n (pc' := 16) (ls' := [some (vR 41 r0), some (vR 48 r1), some (vI x2), some (vR 48 v_23)]) rfl (by decide) rfl ?_
    refine jw_aload_n (pc' := 17) rfl rfl ?_
    refine jw_aload_n (pc' := 18) rfl rfl ?_
    obtain ⟨g_24, w⟩ := w
    refine jw_cV (st := []) (sa := [vR 48 v_23, vR 48 r1]) okX46_add rfl rfl rfl rfl rfl rfl (jstp_virtual (sa := [vR 48 r1]) (st := []) (k := 0) rfl rfl sX46_add okX46_add g_24 (one48.k g_24) rfl rfl) w (fun h_25 _ _ w => ?_)
    refine jw_aload_n (pc' := 22) rfl rfl ?_
    refine jw_ldcwS (pc' := 25) rfl rfl rfl rfl ?_
    refine jw_cV (st := []) (sa := [vR 41 r0, vR 51 (jcs D 239)]) okX8_need rfl rfl rfl rfl rfl rfl (jstp_virtual (sa := [vR 51 (jcs D 239)]) (st := []) (k := 0) rfl rfl sX8_need okX8_need g_1 (one41.k g_1) rfl rfl) w (fun h_28 _ _ w => ?_)
    refine jw_aload_n (pc' := 29) rfl rfl ?_
    refine jw_aload_n (pc' := 30) rfl rfl ?_
    refine jw_cV (st := []) (sa := [vR 41 r0, vR 48 v_23]) okX8_list rfl rfl rfl rfl rfl rfl (jstp_virtual (sa := [vR 48 v_23]) (st := []) (k := 0) rfl rfl sX8_list okX8_list g_1 (one41.k g_1) rfl rfl) w (fun h_31 _ _ w => ?_)
    refine jw_aload_n (pc' := 34) rfl rfl ?_
    refine jw_ldcwS (pc' := 37) rfl rfl rfl rfl ?_
    refine jw_cV (st := []) (sa := [vR 41 r0, vR 51 (jcs D 249)]) okX8_need rfl rfl rfl rfl rfl rfl (jstp_virtual (sa := [vR 51 (jcs D 249)]) (st := []) (k := 0) rfl rfl sX8_need okX8_need g_1 (one41.k g_1) rfl rfl) w (fun h_34 _ _ w => ?_)
    refine jw_aload_n (pc' := 41) rfl rfl ?_
    exact jw_areturn rfl rfl rfl rfl rfl w
def T_X8_within (D : JD) (d : Nat) (Q : JO → JH → Prop) (r0 : Nat) (r1 : Nat) (x2 : Int32) (h : JH) : Prop := W_X8_within_0 D d Q r0 r1 x2 h
theorem t_X8_within {D : JD} {d : Nat} {Q : JO → JH → Prop} {r0 : Nat} {r1 : Nat} {x2 : Int32} {h : JH} (w : T_X8_within D d Q r0 r1 x2 h) : cX8_within D (d + 1) r0 r1 x2 h Q := by
  unfold T_X8_within at w
  unfold cX8_within
  exact w_X8_within_0 w
def W_X8_update_104 (D : JD) (d : Nat) (Q : JO → JH → Prop) (h : JH) : Prop :=
  Q (.inl none) h
theorem w_X8_update_104 {D : JD} {d : Nat} {Q : JO → JH → Prop} {h : JH} (w : W_X8_update_104 D d Q h) : JW D (d + 1) mX8_update 104 [none, none] [] h Q := by
  unfold W_X8_update_104 at w
  exact jw_return rfl rfl w
def W_X8_update_35 (D : JD) (d : Nat) (Q : JO → JH → Prop) (K20 : Nat → Nat → JH → Prop) (r0 : Nat) (r1 : Nat) (q0 : Nat) (s1 : Int32) (h : JH) : Prop :=
  q0 ≠ 0 ∧ (cX8_can D d q0 s1 h (pV D h (fun h_2 => r1 ≠ 0 ∧ (r0 ≠ 0 ∧ (cX8_name D d r0 h_2 (pR D h_2 64 (fun v_9 h_7 => (jfr h_2 272 r1) ≠ 0 ∧ jin (jfi h_2 273 r1) (jln h_7 (jfr h_2 272 r1)) ∧ ∀ h_12 : JH, h_12 = war h_7 (jfr h_2 272 r1) (ixn (jfi h_2 273 r1)) v_9 → (∀ h_14 : JH, h_14 = wfi h_12 273 r1 ((jfi h_12 273 r1) + (1 : Int32)) → (cX8_need D d r0 (jcs D 219) h_14 (pV D h_14 (fun h_16 => cX8_expression D d r0 h_16 (pR D h_16 48 (fun v_21 h_19 => cX45_add D d r1 v_21 h_19 (pV D h_19 (fun h_22 => cX8_take D d r0 (jcs D 248) h_22 (pI D h_22 (fun v_27 h_25 => (¬ v_27 = 0 → K20 r0 r1 h_25) ∧ (v_27 = 0 → cX8_take D d r0 (jcs D 276) h_25 (pI D h_25 (fun v_31 h_29 => (v_31 = 0 → W_X8_update_104 D d Q h_29) ∧ (¬ v_31 = 0 → cX8_expression D d r0 h_29 (pR D h_29 48 (fun v_35 h_33 => ∀ h_36 : JH, h_36 = wfr h_33 282 r1 v_35 → (W_X8_update_104 D d Q h_36)) (jth Q)))) (jth Q)))) (jth Q))) (jth Q))) (jth Q))) (jth Q))))) (jth Q))))) (jth Q)))
theorem w_X8_update_35 {D : JD} {d : Nat} {Q : JO → JH → Prop} {K20 : Nat → Nat → JH → Prop} {r0 : Nat} {r1 : Nat} {q0 : Nat} {s1 : Int32} {h : JH} (hK20 : ∀ (r0 : Nat) (r1 : Nat) (h : JH), K20 r0 r1 h → JW D (d + 1) mX8_update 20 [some (vR 41 r0), some (vR 47 r1)] [] h Q) (w : W_X8_update_35 D d Q K20 r0 r1 q0 s1 h) : JW D (d + 1) mX8_update 35 [some (vR 41 r0), some (vR 47 r1)] [vI s1, vR 41 q0] h Q := by
  unfold W_X8_update_35 at w
  obtain ⟨g_1, w⟩ := w
  refine jw_cV (st := []) (sa := [vR 41 q0, vI s1]) okX8_can rfl rfl rfl rfl rfl rfl (jstp_virtual (sa := [vI s1]) (st := []) (k := 0) rfl rfl sX8_can okX8_can g_1 (one41.k g_1) rfl rfl) w (fun h_2 _ _ w => ?_)
  refine jw_aload_n (pc' := 39) rfl rfl ?_
  obtain ⟨g_5, w⟩ := w
  refine jw_getR (pc' := 42) (F := 272) (t' := 198) rfl rfl rfl rfl rfl g_5 ?_
  refine jw_aload_n (pc' := 43) rfl rfl ?_
  refine jw_getI (pc' := 46) (F := 273) rfl rfl rfl rfl g_5 ?_
  refine jw_aload_n (pc' := 47) rfl rfl ?_
  obtain ⟨g_6, w⟩ := w
  refine jw_cR (st := [vI (jfi h_2 273 r1), vR 198 (jfr h_2 272 r1)]) (sa := [vR 41 r0]) okX8_name rfl rfl rfl rfl rfl rfl (jstp_virtual (sa := []) (st := [vI (jfi h_2 273 r1), vR 198 (jfr h_2 272 r1)]) (k := 0) rfl rfl sX8_name okX8_name g_6 (one41.k g_6) rfl rfl) w (fun v_9 h_7 _ _ _ w => ?_)
  obtain ⟨g_10, w⟩ := w
  obtain ⟨g_11, w⟩ := w
  refine jw_aast' (pc' := 51) rfl rfl rfl rfl rfl rfl g_10 g_11 (fun h_12 e_13 => ?_)
  replace w := w h_12 e_13
  refine jw_aload_n (pc' := 52) rfl rfl ?_
  refine jw_dup (pc' := 53) rfl rfl ?_
  refine jw_getI (pc' := 56) (F := 273) rfl rfl rfl rfl g_5 ?_
  refine jw_iconst (pc' := 57) (x := (1 : Int32)) rfl rfl ?_
  refine jw_iadd (pc' := 58) rfl ?_
  refine jw_putI' (pc' := 61) (F := 273) rfl rfl rfl (Or.inr rfl) (Or.inl rfl) rfl (rfl) (rfl) rfl g_5 (fun h_14 e_15 => ?_)
  replace w := w h_14 e_15
  refine jw_aload_n (pc' := 62) rfl rfl ?_
  refine jw_ldcwS (pc' := 65) rfl rfl rfl rfl ?_
  refine jw_cV (st := []) (sa := [vR 41 r0, vR 51 (jcs D 219)]) okX8_need rfl rfl rfl rfl rfl rfl (jstp_virtual (sa := [vR 51 (jcs D 219)]) (st := []) (k := 0) rfl rfl sX8_need okX8_need g_6 (one41.k g_6) rfl rfl) w (fun h_16 _ _ w => ?_)
  refine jw_aload_n (pc' := 69) rfl rfl ?_
  refine jw_aload_n (pc' := 70) rfl rfl ?_
  refine jw_cR (st := [vR 47 r1]) (sa := [vR 41 r0]) okX8_expression rfl rfl rfl rfl rfl rfl (jstp_virtual (sa := []) (st := [vR 47 r1]) (k := 0) rfl rfl sX8_expression okX8_expression g_6 (one41.k g_6) rfl rfl) w (fun v_21 h_19 _ _ _ w => ?_)
  refine jw_cV (st := []) (sa := [vR 47 r1, vR 48 v_21]) okX45_add rfl rfl rfl rfl rfl rfl (jstp_virtual (sa := [vR 48 v_21]) (st := []) (k := 0) rfl rfl sX45_add okX45_add g_5 (one47.k g_5) rfl rfl) w (fun h_22 _ _ w => ?_)
  refine jw_aload_n (pc' := 77) rfl rfl ?_
  refine jw_ldcwS (pc' := 80) rfl rfl rfl rfl ?_
  refine jw_cI (st := []) (sa := [vR 41 r0, vR 51 (jcs D 248)]) okX8_take rfl rfl rfl rfl rfl rfl (jstp_virtual (sa := [vR 51 (jcs D 248)]) (st := []) (k := 0) rfl rfl sX8_take okX8_take g_6 (one41.k g_6) rfl rfl) w (fun v_27 h_25 _ _ w => ?_)
  refine jw_if_ne (tgt := 20) (pc' := 86) rfl rfl (fun c_28 => ?_) (fun c_28 => ?_)
  · replace w := w.1 c_28
    exact hK20 _ _ _ w
  · replace w := w.2 c_28
    refine jw_aload_n (pc' := 87) rfl rfl ?_
    refine jw_ldcwS (pc' := 90) rfl rfl rfl rfl ?_
    refine jw_cI (st := []) (sa := [vR 41 r0, vR 51 (jcs D 276)]) okX8_take rfl rfl rfl rfl rfl rfl (jstp_virtual (sa := [vR 51 (jcs D 276)]) (st := []) (k := 0) rfl rfl sX8_take okX8_take g_6 (one41.k g_6) rfl rfl) w (fun v_31 h_29 _ _ w => ?_)
    refine jw_if_eq (tgt := 104) (pc' := 96) rfl rfl (fun c_32 => ?_) (fun c_32 => ?_)
    · replace w := w.1 c_32
      refine jw_gen (ls' := [none, none]) (st' := []) (trivial) (trivial) ?_
      exact w_X8_update_104 w
    · replace w := w.2 c_32
      refine jw_aload_n (pc' := 97) rfl rfl ?_
      refine jw_aload_n (pc' := 98) rfl rfl ?_
      refine jw_cR (st := [vR 47 r1]) (sa := [vR 41 r0]) okX8_expression rfl rfl rfl rfl rfl rfl (jstp_virtual (sa := []) (st := [vR 47 r1]) (k := 0) rfl rfl sX8_expression okX8_expression g_6 (one41.k g_6) rfl rfl) w (fun v_35 h_33 _ _ _ w => ?_)
      refine jw_putR' (pc' := 104) (F := 282) rfl rfl rfl (Or.inr rfl) (Or.inl rfl) rfl rfl rfl g_5 (fun h_36 e_37 => ?_)
      replace w := w h_36 e_37
      refine jw_gen (ls' := [none, none]) (st' := []) (trivial) (trivial) ?_
      exact w_X8_update_104 w
def W_X8_update_20 (D : JD) (d : Nat) (Q : JO → JH → Prop) (K20 : Nat → Nat → JH → Prop) (r0 : Nat) (r1 : Nat) (h : JH) : Prop :=
  r1 ≠ 0 ∧ (((10 : Int32) ≤ (jfi h 273 r1) → W_X8_update_35 D d Q K20 r0 r1 r0 (0 : Int32) h) ∧ (¬ (10 : Int32) ≤ (jfi h 273 r1) → W_X8_update_35 D d Q K20 r0 r1 r0 (1 : Int32) h))
theorem w_X8_update_20 {D : JD} {d : Nat} {Q : JO → JH → Prop} {K20 : Nat → Nat → JH → Prop} {r0 : Nat} {r1 : Nat} {h : JH} (hK20 : ∀ (r0 : Nat) (r1 : Nat) (h : JH), K20 r0 r1 h → JW D (d + 1) mX8_update 20 [some (vR 41 r0), some (vR 47 r1)] [] h Q) (w : W_X8_update_20 D d Q K20 r0 r1 h) : JW D (d + 1) mX8_update 20 [some (vR 41 r0), some (vR 47 r1)] [] h Q := by
  unfold W_X8_update_20 at w
  refine jw_aload_n (pc' := 21) rfl rfl ?_
  refine jw_aload_n (pc' := 22) rfl rfl ?_
  obtain ⟨g_1, w⟩ := w
  refine jw_getI (pc' := 25) (F := 273) rfl rfl rfl rfl g_1 ?_
  refine jw_bipush (pc' := 27) (x := (10 : Int32)) rfl rfl ?_
  refine jw_icmp_ge (tgt := 34) (pc' := 30) rfl rfl (fun c_2 => ?_) (fun c_2 => ?_)
  · replace w := w.1 c_2
    refine jw_iconst (pc' := 35) (x := (0 : Int32)) rfl rfl ?_
    exact w_X8_update_35 hK20 w
  · replace w := w.2 c_2
    refine jw_iconst (pc' := 31) (x := (1 : Int32)) rfl rfl ?_
    refine jw_goto (pc' := 35) rfl rfl ?_
    exact w_X8_update_35 hK20 w
def L_X8_update_20 (D : JD) (d : Nat) (Q : JO → JH → Prop) : Nat → Nat → Nat → JH → Prop
  | 0 => fun _ _ _ => False
  | n + 1 => fun r0 r1 h => W_X8_update_20 D d Q (L_X8_update_20 D d Q n) r0 r1 h
theorem l_X8_update_20 {D : JD} {d : Nat} {Q : JO → JH → Prop} : ∀ (n : Nat) (r0 : Nat) (r1 : Nat) (h : JH), L_X8_update_20 D d Q n r0 r1 h → JW D (d + 1) mX8_update 20 [some (vR 41 r0), some (vR 47 r1)] [] h Q := by
  intro n
  induction n with
  | zero => intro _ _ _ w; exact w.elim
  | succ n ih => intro _ _ h w; exact w_X8_update_20 ih w
def W_X8_update_0 (D : JD) (d : Nat) (Q : JO → JH → Prop) (r0 : Nat) (r1 : Nat) (h : JH) : Prop :=
  r1 ≠ 0 ∧ ∀ h_2 : JH, h_2 = wfi h 270 r1 (3 : Int32) → (r0 ≠ 0 ∧ (cX8_name D d r0 h_2 (pR D h_2 64 (fun v_7 h_5 => ∀ h_8 : JH, h_8 = wfr h_5 271 r1 v_7 → (cX8_need D d r0 (jcs D 275) h_8 (pV D h_8 (fun h_10 => ∃ n, L_X8_update_20 D d Q n r0 r1 h_10) (jth Q)))) (jth Q))))
theorem w_X8_update_0 {D : JD} {d : Nat} {Q : JO → JH → Prop} {r0 : Nat} {r1 : Nat} {h : JH} (w : W_X8_update_0 D d Q r0 r1 h) : JW D (d + 1) mX8_update 0 [some (vR 41 r0), some (vR 47 r1)] [] h Q := by
  unfold W_X8_update_0 at w
  refine jw_aload_n (pc' := 1) rfl rfl ?_
  refine jw_iconst (pc' := 2) (x := (3 : Int32)) rfl rfl ?_
  obtain ⟨g_1, w⟩ := w
  refine jw_putI' (pc' := 5) (F := 270) rfl rfl rfl (Or.inr rfl) (Or.inl rfl) rfl (rfl) (rfl) rfl g_1 (fun h_2 e_3 => ?_)
  replace w := w h_2 e_3
  refine jw_aload_n (pc' := 6) rfl rfl ?_
  refine jw_aload_n (pc' := 7) rfl rfl ?_
  obtain ⟨g_4, w⟩ := w
  refine jw_cR (st := [vR 47 r1]) (sa := [vR 41 r0]) okX8_name rfl rfl rfl rfl rfl rfl (jstp_virtual (sa := []) (st := [vR 47 r1]) (k := 0) rfl rfl sX8_name okX8_name g_4 (one41.k g_4) rfl rfl) w (fun v_7 h_5 _ _ _ w => ?_)
  refine jw_putR' (pc' := 13) (F := 271) rfl rfl rfl (Or.inr rfl) (Or.inl rfl) rfl rfl rfl g_1 (fun h_8 e_9 => ?_)
  replace w := w h_8 e_9
  refine jw_aload_n (pc' := 14) rfl rfl ?_
  refine jw_ldcwS (pc' := 17) rfl rfl rfl rfl ?_
  refine jw_cV (st := []) (sa := [vR 41 r0, vR 51 (jcs D 275)]) okX8_need rfl rfl rfl rfl rfl rfl (jstp_virtual (sa := [vR 51 (jcs D 275)]) (st := []) (k := 0) rfl rfl sX8_need okX8_need g_4 (one41.k g_4) rfl rfl) w (fun h_10 _ _ w => ?_)
  obtain ⟨n, w⟩ := w
  exact l_X8_update_20 n _ _ _ w
def T_X8_update (D : JD) (d : Nat) (Q : JO → JH → Prop) (r0 : Nat) (r1 : Nat) (h : JH) : Prop := W_X8_update_0 D d Q r0 r1 h
theorem t_X8_update {D : JD} {d : Nat} {Q : JO → JH → Prop} {r0 : Nat} {r1 : Nat} {h : JH} (w : T_X8_update D d Q r0 r1 h) : cX8_update D (d + 1) r0 r1 h Q := by
  unfold T_X8_update at w
  unfold cX8_update
  exact w_X8_update_0 w
def W_X8_select_399 (D : JD) (d : Nat) (Q : JO → JH → Prop) (h : JH) : Prop :=
  Q (.inl none) h
theorem w_X8_select_399 {D : JD} {d : Nat} {Q : JO → JH → Prop} {h : JH} (w : W_X8_select_399 D d Q h) : JW D (d + 1) mX8_select 399 [none, none, none] [] h Q := by
  unfold W_X8_select_399 at w
  exact jw_return rfl rfl w
def W_X8_select_381 (D : JD) (d : Nat) (Q : JO → JH → Prop) (r0 : Nat) (r1 : Nat) (h : JH) : Prop :=
  r0 ≠ 0 ∧ (cX8_take D d r0 (jcs D 295) h (pI D h (fun v_4 h_2 => (v_4 = 0 → W_X8_select_399 D d Q h_2) ∧ (¬ v_4 = 0 → cX8_integer D d r0 h_2 (pL D h_2 (fun v_7 h_6 => r1 ≠ 0 ∧ ∀ h_9 : JH, h_9 = wfl h_6 298 r1 v_7 → (W_X8_select_399 D d Q h_9)) (jth Q)))) (jth Q)))
theorem w_X8_select_381 {D : JD} {d : Nat} {Q : JO → JH → Prop} {r0 : Nat} {r1 : Nat} {h : JH} (w : W_X8_select_381 D d Q r0 r1 h) : JW D (d + 1) mX8_select 381 [some (vR 41 r0), some (vR 47 r1), none] [] h Q := by
  unfold W_X8_select_381 at w
  refine jw_aload_n (pc' := 382) rfl rfl ?_
  refine jw_ldcwS (pc' := 385) rfl rfl rfl rfl ?_
  obtain ⟨g_1, w⟩ := w
  refine jw_cI (st := []) (sa := [vR 41 r0, vR 51 (jcs D 295)]) okX8_take rfl rfl rfl rfl rfl rfl (jstp_virtual (sa := [vR 51 (jcs D 295)]) (st := []) (k := 0) rfl rfl sX8_take okX8_take g_1 (one41.k g_1) rfl rfl) w (fun v_4 h_2 _ _ w => ?_)
  refine jw_if_eq (tgt := 399) (pc' := 391) rfl rfl (fun c_5 => ?_) (fun c_5 => ?_)
  · replace w := w.1 c_5
    refine jw_gen (ls' := [none, none, none]) (st' := []) (trivial) (trivial) ?_
    exact w_X8_select_399 w
  · replace w := w.2 c_5
    refine jw_aload_n (pc' := 392) rfl rfl ?_
    refine jw_aload_n (pc' := 393) rfl rfl ?_
    refine jw_cL (st := [vR 47 r1]) (sa := [vR 41 r0]) okX8_integer rfl rfl rfl rfl rfl rfl (jstp_virtual (sa := []) (st := [vR 47 r1]) (k := 0) rfl rfl sX8_integer okX8_integer g_1 (one41.k g_1) rfl rfl) w (fun v_7 h_6 _ _ w => ?_)
    obtain ⟨g_8, w⟩ := w
    refine jw_putL' (pc' := 399) (F := 298) rfl rfl rfl (Or.inr rfl) (Or.inl rfl) rfl rfl rfl g_8 (fun h_9 e_10 => ?_)
    replace w := w h_9 e_10
    refine jw_gen (ls' := [none, none, none]) (st' := []) (trivial) (trivial) ?_
    exact w_X8_select_399 w
def W_X8_select_363 (D : JD) (d : Nat) (Q : JO → JH → Prop) (r0 : Nat) (r1 : Nat) (h : JH) : Prop :=
  r0 ≠ 0 ∧ (cX8_take D d r0 (jcs D 294) h (pI D h (fun v_4 h_2 => (v_4 = 0 → W_X8_select_381 D d Q r0 r1 h_2) ∧ (¬ v_4 = 0 → cX8_integer D d r0 h_2 (pL D h_2 (fun v_7 h_6 => r1 ≠ 0 ∧ ∀ h_9 : JH, h_9 = wfl h_6 297 r1 v_7 → (W_X8_select_381 D d Q r0 r1 h_9)) (jth Q)))) (jth Q)))
theorem w_X8_select_363 {D : JD} {d : Nat} {Q : JO → JH → Prop} {r0 : Nat} {r1 : Nat} {h : JH} (w : W_X8_select_363 D d Q r0 r1 h) : JW D (d + 1) mX8_select 363 [some (vR 41 r0), some (vR 47 r1), none] [] h Q := by
  unfold W_X8_select_363 at w
  refine jw_aload_n (pc' := 364) rfl rfl ?_
  refine jw_ldcwS (pc' := 367) rfl rfl rfl rfl ?_
  obtain ⟨g_1, w⟩ := w
  refine jw_cI (st := []) (sa := [vR 41 r0, vR 51 (jcs D 294)]) okX8_take rfl rfl rfl rfl rfl rfl (jstp_virtual (sa := [vR 51 (jcs D 294)]) (st := []) (k := 0) rfl rfl sX8_take okX8_take g_1 (one41.k g_1) rfl rfl) w (fun v_4 h_2 _ _ w => ?_)
  refine jw_if_eq (tgt := 381) (pc' := 373) rfl rfl (fun c_5 => ?_) (fun c_5 => ?_)
  · replace w := w.1 c_5
    exact w_X8_select_381 w
  · replace w := w.2 c_5
    refine jw_aload_n (pc' := 374) rfl rfl ?_
    refine jw_aload_n (pc' := 375) rfl rfl ?_
    refine jw_cL (st := [vR 47 r1]) (sa := [vR 41 r0]) okX8_integer rfl rfl rfl rfl rfl rfl (jstp_virtual (sa := []) (st := [vR 47 r1]) (k := 0) rfl rfl sX8_integer okX8_integer g_1 (one41.k g_1) rfl rfl) w (fun v_7 h_6 _ _ w => ?_)
    obtain ⟨g_8, w⟩ := w
    refine jw_putL' (pc' := 381) (F := 297) rfl rfl rfl (Or.inr rfl) (Or.inl rfl) rfl rfl rfl g_8 (fun h_9 e_10 => ?_)
    replace w := w h_9 e_10
    exact w_X8_select_381 w
def W_X8_select_343 (D : JD) (d : Nat) (Q : JO → JH → Prop) (K272 : Nat → Nat → JH → Prop) (r0 : Nat) (r1 : Nat) (h : JH) : Prop :=
  r1 ≠ 0 ∧ (∀ h_2 : JH, h_2 = wfi h 296 r1 ((jfi h 296 r1) + (1 : Int32)) → (r0 ≠ 0 ∧ (cX8_take D d r0 (jcs D 248) h_2 (pI D h_2 (fun v_7 h_5 => (¬ v_7 = 0 → K272 r0 r1 h_5) ∧ (v_7 = 0 → W_X8_select_363 D d Q r0 r1 h_5)) (jth Q)))))
theorem w_X8_select_343 {D : JD} {d : Nat} {Q : JO → JH → Prop} {K272 : Nat → Nat → JH → Prop} {r0 : Nat} {r1 : Nat} {h : JH} (hK272 : ∀ (r0 : Nat) (r1 : Nat) (h : JH), K272 r0 r1 h → JW D (d + 1) mX8_select 272 [some (vR 41 r0), some (vR 47 r1), none] [] h Q) (w : W_X8_select_343 D d Q K272 r0 r1 h) : JW D (d + 1) mX8_select 343 [some (vR 41 r0), some (vR 47 r1), none] [] h Q := by
  unfold W_X8_select_343 at w
  refine jw_aload_n (pc' := 344) rfl rfl ?_
  refine jw_dup (pc' := 345) rfl rfl ?_
  obtain ⟨g_1, w⟩ := w
  refine jw_getI (pc' := 348) (F := 296) rfl rfl rfl rfl g_1 ?_
  refine jw_iconst (pc' := 349) (x := (1 : Int32)) rfl rfl ?_
  refine jw_iadd (pc' := 350) rfl ?_
  refine jw_putI' (pc' := 353) (F := 296) rfl rfl rfl (Or.inr rfl) (Or.inl rfl) rfl (rfl) (rfl) rfl g_1 (fun h_2 e_3 => ?_)
  replace w := w h_2 e_3
  refine jw_aload_n (pc' := 354) rfl rfl ?_
  refine jw_ldcwS (pc' := 357) rfl rfl rfl rfl ?_
  obtain ⟨g_4, w⟩ := w
  refine jw_cI (st := []) (sa := [vR 41 r0, vR 51 (jcs D 248)]) okX8_take rfl rfl rfl rfl rfl rfl (jstp_virtual (sa := [vR 51 (jcs D 248)]) (st := []) (k := 0) rfl rfl sX8_take okX8_take g_4 (one41.k g_4) rfl rfl) w (fun v_7 h_5 _ _ w => ?_)
  refine jw_if_ne (tgt := 272) (pc' := 363) rfl rfl (fun c_8 => ?_) (fun c_8 => ?_)
  · replace w := w.1 c_8
    exact hK272 _ _ _ w
  · replace w := w.2 c_8
    exact w_X8_select_363 w
def W_X8_select_339 (D : JD) (d : Nat) (Q : JO → JH → Prop) (K272 : Nat → Nat → JH → Prop) (r0 : Nat) (r1 : Nat) (h : JH) : Prop :=
  r0 ≠ 0 ∧ (cX8_next D d r0 h (pV D h (fun h_2 => W_X8_select_343 D d Q K272 r0 r1 h_2) (jth Q)))
theorem w_X8_select_339 {D : JD} {d : Nat} {Q : JO → JH → Prop} {K272 : Nat → Nat → JH → Prop} {r0 : Nat} {r1 : Nat} {h : JH} (hK272 : ∀ (r0 : Nat) (r1 : Nat) (h : JH), K272 r0 r1 h → JW D (d + 1) mX8_select 272 [some (vR 41 r0), some (vR 47 r1), none] [] h Q) (w : W_X8_select_339 D d Q K272 r0 r1 h) : JW D (d + 1) mX8_select 339 [some (vR 41 r0), some (vR 47 r1), none] [] h Q := by
  unfold W_X8_select_339 at w
  refine jw_aload_n (pc' := 340) rfl rfl ?_
  obtain ⟨g_1, w⟩ := w
  refine jw_cV (st := []) (sa := [vR 41 r0]) okX8_next rfl rfl rfl rfl rfl rfl (jstp_virtual (sa := []) (st := []) (k := 0) rfl rfl sX8_next okX8_next g_1 (one41.k g_1) rfl rfl) w (fun h_2 _ _ w => ?_)
  exact w_X8_select_343 hK272 w
def W_X8_select_287 (D : JD) (d : Nat) (Q : JO → JH → Prop) (K272 : Nat → Nat → JH → Prop) (r0 : Nat) (r1 : Nat) (q0 : Nat) (s1 : Int32) (h : JH) : Prop :=
  q0 ≠ 0 ∧ (cX8_can D d q0 s1 h (pV D h (fun h_2 => r1 ≠ 0 ∧ (r0 ≠ 0 ∧ (cX8_expression D d r0 h_2 (pR D h_2 48 (fun v_9 h_7 => (jfr h_2 294 r1) ≠ 0 ∧ jin (jfi h_2 296 r1) (jln h_7 (jfr h_2 294 r1)) ∧ ∀ h_12 : JH, h_12 = war h_7 (jfr h_2 294 r1) (ixn (jfi h_2 296 r1)) v_9 → (cX8_is D d r0 (jcs D 292) h_12 (pI D h_12 (fun v_16 h_14 => (jfr h_12 295 r1) ≠ 0 ∧ jin (jfi h_12 296 r1) (jln h_14 (jfr h_12 295 r1)) ∧ jbo v_16 ∧ ∀ h_20 : JH, h_20 = wai h_14 (jfr h_12 295 r1) (ixn (jfi h_12 296 r1)) v_16 → (cX8_is D d r0 (jcs D 293) h_20 (pI D h_20 (fun v_24 h_22 => (¬ v_24 = 0 → W_X8_select_339 D d Q K272 r0 r1 h_22) ∧ (v_24 = 0 → cX8_is D d r0 (jcs D 292) h_22 (pI D h_22 (fun v_28 h_26 => (v_28 = 0 → W_X8_select_343 D d Q K272 r0 r1 h_26) ∧ (¬ v_28 = 0 → W_X8_select_339 D d Q K272 r0 r1 h_26)) (jth Q)))) (jth Q)))) (jth Q)))) (jth Q))))) (jth Q)))
theorem w_X8_select_287 {D : JD} {d : Nat} {Q : JO → JH → Prop} {K272 : Nat → Nat → JH → Prop} {r0 : Nat} {r1 : Nat} {q0 : Nat} {s1 : Int32} {h : JH} (hK272 : ∀ (r0 : Nat) (r1 : Nat) (h : JH), K272 r0 r1 h → JW D (d + 1) mX8_select 272 [some (vR 41 r0), some (vR 47 r1), none] [] h Q) (w : W_X8_select_287 D d Q K272 r0 r1 q0 s1 h) : JW D (d + 1) mX8_select 287 [some (vR 41 r0), some (vR 47 r1), none] [vI s1, vR 41 q0] h Q := by
  unfold W_X8_select_287 at w
  obtain ⟨g_1, w⟩ := w
  refine jw_cV (st := []) (sa := [vR 41 q0, vI s1]) okX8_can rfl rfl rfl rfl rfl rfl (jstp_virtual (sa := [vI s1]) (st := []) (k := 0) rfl rfl sX8_can okX8_can g_1 (one41.k g_1) rfl rfl) w (fun h_2 _ _ w => ?_)
  refine jw_aload_n (pc' := 291) rfl rfl ?_
  obtain ⟨g_5, w⟩ := w
  refine jw_getR (pc' := 294) (F := 294) (t' := 210) rfl rfl rfl rfl rfl g_5 ?_
  refine jw_aload_n (pc' := 295) rfl rfl ?_
  refine jw_getI (pc' := 298) (F := 296) rfl rfl rfl rfl g_5 ?_
  refine jw_aload_n (pc' := 299) rfl rfl ?_
  obtain ⟨g_6, w⟩ := w
  refine jw_cR (st := [vI (jfi h_2 296 r1), vR 210 (jfr h_2 294 r1)]) (sa := [vR 41 r0]) okX8_expression rfl rfl rfl rfl rfl rfl (jstp_virtual (sa := []) (st := [vI (jfi h_2 296 r1), vR 210 (jfr h_2 294 r1)]) (k := 0) rfl rfl sX8_expression okX8_expression g_6 (one41.k g_6) rfl rfl) w (fun v_9 h_7 _ _ _ w => ?_)
  obtain ⟨g_10, w⟩ := w
  obtain ⟨g_11, w⟩ := w
  refine jw_aast' (pc' := 303) rfl rfl rfl rfl rfl rfl g_10 g_11 (fun h_12 e_13 => ?_)
  replace w := w h_12 e_13
  refine jw_aload_n (pc' := 304) rfl rfl ?_
  refine jw_getR (pc' := 307) (F := 295) (t' := 211) rfl rfl rfl rfl rfl g_5 ?_
  refine jw_aload_n (pc' := 308) rfl rfl ?_
  refine jw_getI (pc' := 311) (F := 296) rfl rfl rfl rfl g_5 ?_
  refine jw_aload_n (pc' := 312) rfl rfl ?_
  refine jw_ldcwS (pc' := 315) rfl rfl rfl rfl ?_
  refine jw_cI (st := [vI (jfi h_12 296 r1), vR 211 (jfr h_12 295 r1)]) (sa := [vR 41 r0, vR 51 (jcs D 292)]) okX8_is rfl rfl rfl rfl rfl rfl (jstp_virtual (sa := [vR 51 (jcs D 292)]) (st := [vI (jfi h_12 296 r1), vR 211 (jfr h_12 295 r1)]) (k := 0) rfl rfl sX8_is okX8_is g_6 (one41.k g_6) rfl rfl) w (fun v_16 h_14 _ _ w => ?_)
  obtain ⟨g_17, w⟩ := w
  obtain ⟨g_18, w⟩ := w
  obtain ⟨g_19, w⟩ := w
  refine jw_zast' (pc' := 319) rfl rfl rfl rfl rfl (g_19.nr) g_17 g_18 (fun h_20 e_21 => ?_)
  replace w := w h_20 e_21
  refine jw_aload_n (pc' := 320) rfl rfl ?_
  refine jw_ldcwS (pc' := 323) rfl rfl rfl rfl ?_
  refine jw_cI (st := []) (sa := [vR 41 r0, vR 51 (jcs D 293)]) okX8_is rfl rfl rfl rfl rfl rfl (jstp_virtual (sa := [vR 51 (jcs D 293)]) (st := []) (k := 0) rfl rfl sX8_is okX8_is g_6 (one41.k g_6) rfl rfl) w (fun v_24 h_22 _ _ w => ?_)
  refine jw_if_ne (tgt := 339) (pc' := 329) rfl rfl (fun c_25 => ?_) (fun c_25 => ?_)
  · replace w := w.1 c_25
    exact w_X8_select_339 hK272 w
  · replace w := w.2 c_25
    refine jw_aload_n (pc' := 330) rfl rfl ?_
    refine jw_ldcwS (pc' := 333) rfl rfl rfl rfl ?_
    refine jw_cI (st := []) (sa := [vR 41 r0, vR 51 (jcs D 292)]) okX8_is rfl rfl rfl rfl rfl rfl (jstp_virtual (sa := [vR 51 (jcs D 292)]) (st := []) (k := 0) rfl rfl sX8_is okX8_is g_6 (one41.k g_6) rfl rfl) w (fun v_28 h_26 _ _ w => ?_)
    refine jw_if_eq (tgt := 343) (pc' := 339) rfl rfl (fun c_29 => ?_) (fun c_29 => ?_)
    · replace w := w.1 c_29
      exact w_X8_select_343 hK272 w
    · replace w := w.2 c_29
      exact w_X8_select_339 hK272 w
def W_X8_select_272 (D : JD) (d : Nat) (Q : JO → JH → Prop) (K272 : Nat → Nat → JH → Prop) (r0 : Nat) (r1 : Nat) (h : JH) : Prop :=
  r1 ≠ 0 ∧ (((8 : Int32) ≤ (jfi h 296 r1) → W_X8_select_287 D d Q K272 r0 r1 r0 (0 : Int32) h) ∧ (¬ (8 : Int32) ≤ (jfi h 296 r1) → W_X8_select_287 D d Q K272 r0 r1 r0 (1 : Int32) h))
theorem w_X8_select_272 {D : JD} {d : Nat} {Q : JO → JH → Prop} {K272 : Nat → Nat → JH → Prop} {r0 : Nat} {r1 : Nat} {h : JH} (hK272 : ∀ (r0 : Nat) (r1 : Nat) (h : JH), K272 r0 r1 h → JW D (d + 1) mX8_select 272 [some (vR 41 r0), some (vR 47 r1), none] [] h Q) (w : W_X8_select_272 D d Q K272 r0 r1 h) : JW D (d + 1) mX8_select 272 [some (vR 41 r0), some (vR 47 r1), none] [] h Q := by
  unfold W_X8_select_272 at w
  refine jw_aload_n (pc' := 273) rfl rfl ?_
  refine jw_aload_n (pc' := 274) rfl rfl ?_
  obtain ⟨g_1, w⟩ := w
  refine jw_getI (pc' := 277) (F := 296) rfl rfl rfl rfl g_1 ?_
  refine jw_bipush (pc' := 279) (x := (8 : Int32)) rfl rfl ?_
  refine jw_icmp_ge (tgt := 286) (pc' := 282) rfl rfl (fun c_2 => ?_) (fun c_2 => ?_)
  · replace w := w.1 c_2
    refine jw_iconst (pc' := 287) (x := (0 : Int32)) rfl rfl ?_
    exact w_X8_select_287 hK272 w
  · replace w := w.2 c_2
    refine jw_iconst (pc' := 283) (x := (1 : Int32)) rfl rfl ?_
    refine jw_goto (pc' := 287) rfl rfl ?_
    exact w_X8_select_287 hK272 w
def L_X8_select_272 (D : JD) (d : Nat) (Q : JO → JH → Prop) : Nat → Nat → Nat → JH → Prop
  | 0 => fun _ _ _ => False
  | n + 1 => fun r0 r1 h => W_X8_select_272 D d Q (L_X8_select_272 D d Q n) r0 r1 h
theorem l_X8_select_272 {D : JD} {d : Nat} {Q : JO → JH → Prop} : ∀ (n : Nat) (r0 : Nat) (r1 : Nat) (h : JH), L_X8_select_272 D d Q n r0 r1 h → JW D (d + 1) mX8_select 272 [some (vR 41 r0), some (vR 47 r1), none] [] h Q := by
  intro n
  induction n with
  | zero => intro _ _ _ w; exact w.elim
  | succ n ih => intro _ _ h w; exact w_X8_select_272 ih w
def W_X8_select_255 (D : JD) (d : Nat) (Q : JO → JH → Prop) (r0 : Nat) (r1 : Nat) (h : JH) : Prop :=
  r0 ≠ 0 ∧ (cX8_take D d r0 (jcs D 291) h (pI D h (fun v_4 h_2 => (v_4 = 0 → W_X8_select_363 D d Q r0 r1 h_2) ∧ (¬ v_4 = 0 → cX8_need D d r0 (jcs D 289) h_2 (pV D h_2 (fun h_6 => ∃ n, L_X8_select_272 D d Q n r0 r1 h_6) (jth Q)))) (jth Q)))
theorem w_X8_select_255 {D : JD} {d : Nat} {Q : JO → JH → Prop} {r0 : Nat} {r1 : Nat} {h : JH} (w : W_X8_select_255 D d Q r0 r1 h) : JW D (d + 1) mX8_select 255 [some (vR 41 r0), some (vR 47 r1), none] [] h Q := by
  unfold W_X8_select_255 at w
  refine jw_aload_n (pc' := 256) rfl rfl ?_
  refine jw_ldcwS (pc' := 259) rfl rfl rfl rfl ?_
  obtain ⟨g_1, w⟩ := w
  refine jw_cI (st := []) (sa := [vR 41 r0, vR 51 (jcs D 291)]) okX8_take rfl rfl rfl rfl rfl rfl (jstp_virtual (sa := [vR 51 (jcs D 291)]) (st := []) (k := 0) rfl rfl sX8_take okX8_take g_1 (one41.k g_1) rfl rfl) w (fun v_4 h_2 _ _ w => ?_)
  refine jw_if_eq (tgt := 363) (pc' := 265) rfl rfl (fun c_5 => ?_) (fun c_5 => ?_)
  · replace w := w.1 c_5
    exact w_X8_select_363 w
  · replace w := w.2 c_5
    refine jw_aload_n (pc' := 266) rfl rfl ?_
    refine jw_ldcwS (pc' := 269) rfl rfl rfl rfl ?_
    refine jw_cV (st := []) (sa := [vR 41 r0, vR 51 (jcs D 289)]) okX8_need rfl rfl rfl rfl rfl rfl (jstp_virtual (sa := [vR 51 (jcs D 289)]) (st := []) (k := 0) rfl rfl sX8_need okX8_need g_1 (one41.k g_1) rfl rfl) w (fun h_6 _ _ w => ?_)
    obtain ⟨n, w⟩ := w
    exact l_X8_select_272 n _ _ _ w
def W_X8_select_237 (D : JD) (d : Nat) (Q : JO → JH → Prop) (r0 : Nat) (r1 : Nat) (h : JH) : Prop :=
  r0 ≠ 0 ∧ (cX8_take D d r0 (jcs D 290) h (pI D h (fun v_4 h_2 => (v_4 = 0 → W_X8_select_255 D d Q r0 r1 h_2) ∧ (¬ v_4 = 0 → cX8_expression D d r0 h_2 (pR D h_2 48 (fun v_8 h_6 => r1 ≠ 0 ∧ ∀ h_10 : JH, h_10 = wfr h_6 293 r1 v_8 → (W_X8_select_255 D d Q r0 r1 h_10)) (jth Q)))) (jth Q)))
theorem w_X8_select_237 {D : JD} {d : Nat} {Q : JO → JH → Prop} {r0 : Nat} {r1 : Nat} {h : JH} (w : W_X8_select_237 D d Q r0 r1 h) : JW D (d + 1) mX8_select 237 [some (vR 41 r0), some (vR 47 r1), none] [] h Q := by
  unfold W_X8_select_237 at w
  refine jw_aload_n (pc' := 238) rfl rfl ?_
  refine jw_ldcwS (pc' := 241) rfl rfl rfl rfl ?_
  obtain ⟨g_1, w⟩ := w
  refine jw_cI (st := []) (sa := [vR 41 r0, vR 51 (jcs D 290)]) okX8_take rfl rfl rfl rfl rfl rfl (jstp_virtual (sa := [vR 51 (jcs D 290)]) (st := []) (k := 0) rfl rfl sX8_take okX8_take g_1 (one41.k g_1) rfl rfl) w (fun v_4 h_2 _ _ w => ?_)
  refine jw_if_eq (tgt := 255) (pc' := 247) rfl rfl (fun c_5 => ?_) (fun c_5 => ?_)
  · replace w := w.1 c_5
    exact w_X8_select_255 w
  · replace w := w.2 c_5
    refine jw_aload_n (pc' := 248) rfl rfl ?_
    refine jw_aload_n (pc' := 249) rfl rfl ?_
    refine jw_cR (st := [vR 47 r1]) (sa := [vR 41 r0]) okX8_expression rfl rfl rfl rfl rfl rfl (jstp_virtual (sa := []) (st := [vR 47 r1]) (k := 0) rfl rfl sX8_expression okX8_expression g_1 (one41.k g_1) rfl rfl) w (fun v_8 h_6 _ _ _ w => ?_)
    obtain ⟨g_9, w⟩ := w
    refine jw_putR' (pc' := 255) (F := 293) rfl rfl rfl (Or.inr rfl) (Or.inl rfl) rfl rfl rfl g_9 (fun h_10 e_11 => ?_)
    replace w := w h_10 e_11
    exact w_X8_select_255 w
def W_X8_select_201 (D : JD) (d : Nat) (Q : JO → JH → Prop) (K186 : Nat → Nat → JH → Prop) (r0 : Nat) (r1 : Nat) (q0 : Nat) (s1 : Int32) (h : JH) : Prop :=
  q0 ≠ 0 ∧ (cX8_can D d q0 s1 h (pV D h (fun h_2 => r1 ≠ 0 ∧ (r0 ≠ 0 ∧ (cX8_expression D d r0 h_2 (pR D h_2 48 (fun v_9 h_7 => (jfr h_2 291 r1) ≠ 0 ∧ jin (jfi h_2 292 r1) (jln h_7 (jfr h_2 291 r1)) ∧ ∀ h_12 : JH, h_12 = war h_7 (jfr h_2 291 r1) (ixn (jfi h_2 292 r1)) v_9 → (∀ h_14 : JH, h_14 = wfi h_12 292 r1 ((jfi h_12 292 r1) + (1 : Int32)) → (cX8_take D d r0 (jcs D 248) h_14 (pI D h_14 (fun v_18 h_16 => (¬ v_18 = 0 → K186 r0 r1 h_16) ∧ (v_18 = 0 → W_X8_select_237 D d Q r0 r1 h_16)) (jth Q))))) (jth Q))))) (jth Q)))
theorem w_X8_select_201 {D : JD} {d : Nat} {Q : JO → JH → Prop} {K186 : Nat → Nat → JH → Prop} {r0 : Nat} {r1 : Nat} {q0 : Nat} {s1 : Int32} {h : JH} (hK186 : ∀ (r0 : Nat) (r1 : Nat) (h : JH), K186 r0 r1 h → JW D (d + 1) mX8_select 186 [some (vR 41 r0), some (vR 47 r1), none] [] h Q) (w : W_X8_select_201 D d Q K186 r0 r1 q0 s1 h) : JW D (d + 1) mX8_select 201 [some (vR 41 r0), some (vR 47 r1), none] [vI s1, vR 41 q0] h Q := by
  unfold W_X8_select_201 at w
  obtain ⟨g_1, w⟩ := w
  refine jw_cV (st := []) (sa := [vR 41 q0, vI s1]) okX8_can rfl rfl rfl rfl rfl rfl (jstp_virtual (sa := [vI s1]) (st := []) (k := 0) rfl rfl sX8_can okX8_can g_1 (one41.k g_1) rfl rfl) w (fun h_2 _ _ w => ?_)
  refine jw_aload_n (pc' := 205) rfl rfl ?_
  obtain ⟨g_5, w⟩ := w
  refine jw_getR (pc' := 208) (F := 291) (t' := 209) rfl rfl rfl rfl rfl g_5 ?_
  refine jw_aload_n (pc' := 209) rfl rfl ?_
  refine jw_getI (pc' := 212) (F := 292) rfl rfl rfl rfl g_5 ?_
  refine jw_aload_n (pc' := 213) rfl rfl ?_
  obtain ⟨g_6, w⟩ := w
  refine jw_cR (st := [vI (jfi h_2 292 r1), vR 209 (jfr h_2 291 r1)]) (sa := [vR 41 r0]) okX8_expression rfl rfl rfl rfl rfl rfl (jstp_virtual (sa := []) (st := [vI (jfi h_2 292 r1), vR 209 (jfr h_2 291 r1)]) (k := 0) rfl rfl sX8_expression okX8_expression g_6 (one41.k g_6) rfl rfl) w (fun v_9 h_7 _ _ _ w => ?_)
  obtain ⟨g_10, w⟩ := w
  obtain ⟨g_11, w⟩ := w
  refine jw_aast' (pc' := 217) rfl rfl rfl rfl rfl rfl g_10 g_11 (fun h_12 e_13 => ?_)
  replace w := w h_12 e_13
  refine jw_aload_n (pc' := 218) rfl rfl ?_
  refine jw_dup (pc' := 219) rfl rfl ?_
  refine jw_getI (pc' := 222) (F := 292) rfl rfl rfl rfl g_5 ?_
  refine jw_iconst (pc' := 223) (x := (1 : Int32)) rfl rfl ?_
  refine jw_iadd (pc' := 224) rfl ?_
  refine jw_putI' (pc' := 227) (F := 292) rfl rfl rfl (Or.inr rfl) (Or.inl rfl) rfl (rfl) (rfl) rfl g_5 (fun h_14 e_15 => ?_)
  replace w := w h_14 e_15
  refine jw_aload_n (pc' := 228) rfl rfl ?_
  refine jw_ldcwS (pc' := 231) rfl rfl rfl rfl ?_
  refine jw_cI (st := []) (sa := [vR 41 r0, vR 51 (jcs D 248)]) okX8_take rfl rfl rfl rfl rfl rfl (jstp_virtual (sa := [vR 51 (jcs D 248)]) (st := []) (k := 0) rfl rfl sX8_take okX8_take g_6 (one41.k g_6) rfl rfl) w (fun v_18 h_16 _ _ w => ?_)
  refine jw_if_ne (tgt := 186) (pc' := 237) rfl rfl (fun c_19 => ?_) (fun c_19 => ?_)
  · replace w := w.1 c_19
    exact hK186 _ _ _ w
  · replace w := w.2 c_19
    exact w_X8_select_237 w
def W_X8_select_186 (D : JD) (d : Nat) (Q : JO → JH → Prop) (K186 : Nat → Nat → JH → Prop) (r0 : Nat) (r1 : Nat) (h : JH) : Prop :=
  r1 ≠ 0 ∧ (((8 : Int32) ≤ (jfi h 292 r1) → W_X8_select_201 D d Q K186 r0 r1 r0 (0 : Int32) h) ∧ (¬ (8 : Int32) ≤ (jfi h 292 r1) → W_X8_select_201 D d Q K186 r0 r1 r0 (1 : Int32) h))
theorem w_X8_select_186 {D : JD} {d : Nat} {Q : JO → JH → Prop} {K186 : Nat → Nat → JH → Prop} {r0 : Nat} {r1 : Nat} {h : JH} (hK186 : ∀ (r0 : Nat) (r1 : Nat) (h : JH), K186 r0 r1 h → JW D (d + 1) mX8_select 186 [some (vR 41 r0), some (vR 47 r1), none] [] h Q) (w : W_X8_select_186 D d Q K186 r0 r1 h) : JW D (d + 1) mX8_select 186 [some (vR 41 r0), some (vR 47 r1), none] [] h Q := by
  unfold W_X8_select_186 at w
  refine jw_aload_n (pc' := 187) rfl rfl ?_
  refine jw_aload_n (pc' := 188) rfl rfl ?_
  obtain ⟨g_1, w⟩ := w
  refine jw_getI (pc' := 191) (F := 292) rfl rfl rfl rfl g_1 ?_
  refine jw_bipush (pc' := 193) (x := (8 : Int32)) rfl rfl ?_
  refine jw_icmp_ge (tgt := 200) (pc' := 196) rfl rfl (fun c_2 => ?_) (fun c_2 => ?_)
  · replace w := w.1 c_2
    refine jw_iconst (pc' := 201) (x := (0 : Int32)) rfl rfl ?_
    exact w_X8_select_201 hK186 w
  · replace w := w.2 c_2
    refine jw_iconst (pc' := 197) (x := (1 : Int32)) rfl rfl ?_
    refine jw_goto (pc' := 201) rfl rfl ?_
    exact w_X8_select_201 hK186 w
def L_X8_select_186 (D : JD) (d : Nat) (Q : JO → JH → Prop) : Nat → Nat → Nat → JH → Prop
  | 0 => fun _ _ _ => False
  | n + 1 => fun r0 r1 h => W_X8_select_186 D d Q (L_X8_select_186 D d Q n) r0 r1 h
theorem l_X8_select_186 {D : JD} {d : Nat} {Q : JO → JH → Prop} : ∀ (n : Nat) (r0 : Nat) (r1 : Nat) (h : JH), L_X8_select_186 D d Q n r0 r1 h → JW D (d + 1) mX8_select 186 [some (vR 41 r0), some (vR 47 r1), none] [] h Q := by
  intro n
  induction n with
  | zero => intro _ _ _ w; exact w.elim
  | succ n ih => intro _ _ h w; exact w_X8_select_186 ih w
def W_X8_select_169 (D : JD) (d : Nat) (Q : JO → JH → Prop) (r0 : Nat) (r1 : Nat) (h : JH) : Prop :=
  r0 ≠ 0 ∧ (cX8_take D d r0 (jcs D 288) h (pI D h (fun v_4 h_2 => (v_4 = 0 → W_X8_select_237 D d Q r0 r1 h_2) ∧ (¬ v_4 = 0 → cX8_need D d r0 (jcs D 289) h_2 (pV D h_2 (fun h_6 => ∃ n, L_X8_select_186 D d Q n r0 r1 h_6) (jth Q)))) (jth Q)))
theorem w_X8_select_169 {D : JD} {d : Nat} {Q : JO → JH → Prop} {r0 : Nat} {r1 : Nat} {h : JH} (w : W_X8_select_169 D d Q r0 r1 h) : JW D (d + 1) mX8_select 169 [some (vR 41 r0), some (vR 47 r1), none] [] h Q := by
  unfold W_X8_select_169 at w
  refine jw_aload_n (pc' := 170) rfl rfl ?_
  refine jw_ldcwS (pc' := 173) rfl rfl rfl rfl ?_
  obtain ⟨g_1, w⟩ := w
  refine jw_cI (st := []) (sa := [vR 41 r0, vR 51 (jcs D 288)]) okX8_take rfl rfl rfl rfl rfl rfl (jstp_virtual (sa := [vR 51 (jcs D 288)]) (st := []) (k := 0) rfl rfl sX8_take okX8_take g_1 (one41.k g_1) rfl rfl) w (fun v_4 h_2 _ _ w => ?_)
  refine jw_if_eq (tgt := 237) (pc' := 179) rfl rfl (fun c_5 => ?_) (fun c_5 => ?_)
  · replace w := w.1 c_5
    exact w_X8_select_237 w
  · replace w := w.2 c_5
    refine jw_aload_n (pc' := 180) rfl rfl ?_
    refine jw_ldcwS (pc' := 183) rfl rfl rfl rfl ?_
    refine jw_cV (st := []) (sa := [vR 41 r0, vR 51 (jcs D 289)]) okX8_need rfl rfl rfl rfl rfl rfl (jstp_virtual (sa := [vR 51 (jcs D 289)]) (st := []) (k := 0) rfl rfl sX8_need okX8_need g_1 (one41.k g_1) rfl rfl) w (fun h_6 _ _ w => ?_)
    obtain ⟨n, w⟩ := w
    exact l_X8_select_186 n _ _ _ w
def W_X8_select_151 (D : JD) (d : Nat) (Q : JO → JH → Prop) (r0 : Nat) (r1 : Nat) (h : JH) : Prop :=
  r0 ≠ 0 ∧ (cX8_take D d r0 (jcs D 276) h (pI D h (fun v_4 h_2 => (v_4 = 0 → W_X8_select_169 D d Q r0 r1 h_2) ∧ (¬ v_4 = 0 → cX8_expression D d r0 h_2 (pR D h_2 48 (fun v_8 h_6 => r1 ≠ 0 ∧ ∀ h_10 : JH, h_10 = wfr h_6 282 r1 v_8 → (W_X8_select_169 D d Q r0 r1 h_10)) (jth Q)))) (jth Q)))
theorem w_X8_select_151 {D : JD} {d : Nat} {Q : JO → JH → Prop} {r0 : Nat} {r1 : Nat} {h : JH} (w : W_X8_select_151 D d Q r0 r1 h) : JW D (d + 1) mX8_select 151 [some (vR 41 r0), some (vR 47 r1), none] [] h Q := by
  unfold W_X8_select_151 at w
  refine jw_aload_n (pc' := 152) rfl rfl ?_
  refine jw_ldcwS (pc' := 155) rfl rfl rfl rfl ?_
  obtain ⟨g_1, w⟩ := w
  refine jw_cI (st := []) (sa := [vR 41 r0, vR 51 (jcs D 276)]) okX8_take rfl rfl rfl rfl rfl rfl (jstp_virtual (sa := [vR 51 (jcs D 276)]) (st := []) (k := 0) rfl rfl sX8_take okX8_take g_1 (one41.k g_1) rfl rfl) w (fun v_4 h_2 _ _ w => ?_)
  refine jw_if_eq (tgt := 169) (pc' := 161) rfl rfl (fun c_5 => ?_) (fun c_5 => ?_)
  · replace w := w.1 c_5
    exact w_X8_select_169 w
  · replace w := w.2 c_5
    refine jw_aload_n (pc' := 162) rfl rfl ?_
    refine jw_aload_n (pc' := 163) rfl rfl ?_
    refine jw_cR (st := [vR 47 r1]) (sa := [vR 41 r0]) okX8_expression rfl rfl rfl rfl rfl rfl (jstp_virtual (sa := []) (st := [vR 47 r1]) (k := 0) rfl rfl sX8_expression okX8_expression g_1 (one41.k g_1) rfl rfl) w (fun v_8 h_6 _ _ _ w => ?_)
    obtain ⟨g_9, w⟩ := w
    refine jw_putR' (pc' := 169) (F := 282) rfl rfl rfl (Or.inr rfl) (Or.inl rfl) rfl rfl rfl g_9 (fun h_10 e_11 => ?_)
    replace w := w h_10 e_11
    exact w_X8_select_169 w
def W_X8_select_105 (D : JD) (d : Nat) (Q : JO → JH → Prop) (K66 : Nat → Nat → JH → Prop) (r0 : Nat) (r1 : Nat) (h : JH) : Prop :=
  r0 ≠ 0 ∧ (cX8_take D d r0 (jcs D 285) h (pI D h (fun v_4 h_2 => cX8_need D d r0 (jcs D 286) h_2 (pV D h_2 (fun h_5 => cX8_sourceOf D d r0 r1 v_4 h_5 (pV D h_5 (fun h_8 => cX8_need D d r0 (jcs D 287) h_8 (pV D h_8 (fun h_11 => r1 ≠ 0 ∧ (cX8_expression D d r0 h_11 (pR D h_11 48 (fun v_17 h_15 => (jfr h_11 288 r1) ≠ 0 ∧ jin ((jfi h_11 290 r1) - (1 : Int32)) (jln h_15 (jfr h_11 288 r1)) ∧ ∀ h_20 : JH, h_20 = war h_15 (jfr h_11 288 r1) (ixn ((jfi h_11 290 r1) - (1 : Int32))) v_17 → (K66 r0 r1 h_20)) (jth Q)))) (jth Q))) (jth Q))) (jth Q))) (jth Q)))
theorem w_X8_select_105 {D : JD} {d : Nat} {Q : JO → JH → Prop} {K66 : Nat → Nat → JH → Prop} {r0 : Nat} {r1 : Nat} {h : JH} (hK66 : ∀ (r0 : Nat) (r1 : Nat) (h : JH), K66 r0 r1 h → JW D (d + 1) mX8_select 66 [some (vR 41 r0), some (vR 47 r1), none] [] h Q) (w : W_X8_select_105 D d Q K66 r0 r1 h) : JW D (d + 1) mX8_select 105 [some (vR 41 r0), some (vR 47 r1), none] [] h Q := by
  unfold W_X8_select_105 at w
  refine jw_aload_n (pc' := 106) rfl rfl ?_
  refine jw_ldcwS (pc' := 109) rfl rfl rfl rfl ?_
  obtain ⟨g_1, w⟩ := w
  refine jw_cI (st := []) (sa := [vR 41 r0, vR 51 (jcs D 285)]) okX8_take rfl rfl rfl rfl rfl rfl (jstp_virtual (sa := [vR 51 (jcs D 285)]) (st := []) (k := 0) rfl rfl sX8_take okX8_take g_1 (one41.k g_1) rfl rfl) w (fun v_4 h_2 _ _ w => ?_)
  refine jw_istore_n (pc' := 113) (ls' := [some (vR 41 r0), some (vR 47 r1), some (vI v_4)]) rfl (by decide) rfl ?_
  refine jw_aload_n (pc' := 114) rfl rfl ?_
  refine jw_ldcwS (pc' := 117) rfl rfl rfl rfl ?_
  refine jw_cV (st := []) (sa := [vR 41 r0, vR 51 (jcs D 286)]) okX8_need rfl rfl rfl rfl rfl rfl (jstp_virtual (sa := [vR 51 (jcs D 286)]) (st := []) (k := 0) rfl rfl sX8_need okX8_need g_1 (one41.k g_1) rfl rfl) w (fun h_5 _ _ w => ?_)
  refine jw_aload_n (pc' := 121) rfl rfl ?_
  refine jw_aload_n (pc' := 122) rfl rfl ?_
  refine jw_iload_n (pc' := 123) rfl rfl ?_
  refine jw_cV (st := []) (sa := [vR 41 r0, vR 47 r1, vI v_4]) okX8_sourceOf rfl rfl rfl rfl rfl rfl (jstp_virtual (sa := [vR 47 r1, vI v_4]) (st := []) (k := 0) rfl rfl sX8_sourceOf okX8_sourceOf g_1 (one41.k g_1) rfl rfl) w (fun h_8 _ _ w => ?_)
  refine jw_aload_n (pc' := 127) rfl rfl ?_
  refine jw_ldcwS (pc' := 130) rfl rfl rfl rfl ?_
  refine jw_cV (st := []) (sa := [vR 41 r0, vR 51 (jcs D 287)]) okX8_need rfl rfl rfl rfl rfl rfl (jstp_virtual (sa := [vR 51 (jcs D 287)]) (st := []) (k := 0) rfl rfl sX8_need okX8_need g_1 (one41.k g_1) rfl rfl) w (fun h_11 _ _ w => ?_)
  refine jw_aload_n (pc' := 134) rfl rfl ?_
  obtain ⟨g_14, w⟩ := w
  refine jw_getR (pc' := 137) (F := 288) (t' := 207) rfl rfl rfl rfl rfl g_14 ?_
  refine jw_aload_n (pc' := 138) rfl rfl ?_
  refine jw_getI (pc' := 141) (F := 290) rfl rfl rfl rfl g_14 ?_
  refine jw_iconst (pc' := 142) (x := (1 : Int32)) rfl rfl ?_
  refine jw_isub (pc' := 143) rfl ?_
  refine jw_aload_n (pc' := 144) rfl rfl ?_
  refine jw_cR (st := [vI ((jfi h_11 290 r1) - (1 : Int32)), vR 207 (jfr h_11 288 r1)]) (sa := [vR 41 r0]) okX8_expression rfl rfl rfl rfl rfl rfl (jstp_virtual (sa := []) (st := [vI ((jfi h_11 290 r1) - (1 : Int32)), vR 207 (jfr h_11 288 r1)]) (k := 0) rfl rfl sX8_expression okX8_expression g_1 (one41.k g_1) rfl rfl) w (fun v_17 h_15 _ _ _ w => ?_)
  obtain ⟨g_18, w⟩ := w
  obtain ⟨g_19, w⟩ := w
  refine jw_aast' (pc' := 148) rfl rfl rfl rfl rfl rfl g_18 g_19 (fun h_20 e_21 => ?_)
  replace w := w h_20 e_21
  refine jw_goto (pc' := 66) rfl rfl ?_
  refine jw_gen (ls' := [some (vR 41 r0), some (vR 47 r1), none]) (st' := []) (And.intro (Or.inl rfl) (And.intro (Or.inl rfl) (trivial))) (trivial) ?_
  exact hK66 _ _ _ w
def W_X8_select_66 (D : JD) (d : Nat) (Q : JO → JH → Prop) (K66 : Nat → Nat → JH → Prop) (r0 : Nat) (r1 : Nat) (h : JH) : Prop :=
  r0 ≠ 0 ∧ (cX8_take D d r0 (jcs D 248) h (pI D h (fun v_4 h_2 => (v_4 = 0 → cX8_is D d r0 (jcs D 285) h_2 (pI D h_2 (fun v_8 h_6 => (¬ v_8 = 0 → W_X8_select_105 D d Q K66 r0 r1 h_6) ∧ (v_8 = 0 → cX8_is D d r0 (jcs D 286) h_6 (pI D h_6 (fun v_12 h_10 => (v_12 = 0 → W_X8_select_151 D d Q r0 r1 h_10) ∧ (¬ v_12 = 0 → W_X8_select_105 D d Q K66 r0 r1 h_10)) (jth Q)))) (jth Q))) ∧ (¬ v_4 = 0 → cX8_sourceOf D d r0 r1 (0 : Int32) h_2 (pV D h_2 (fun h_14 => K66 r0 r1 h_14) (jth Q)))) (jth Q)))
theorem w_X8_select_66 {D : JD} {d : Nat} {Q : JO → JH → Prop} {K66 : Nat → Nat → JH → Prop} {r0 : Nat} {r1 : Nat} {h : JH} (hK66 : ∀ (r0 : Nat) (r1 : Nat) (h : JH), K66 r0 r1 h → JW D (d + 1) mX8_select 66 [some (vR 41 r0), some (vR 47 r1), none] [] h Q) (w : W_X8_select_66 D d Q K66 r0 r1 h) : JW D (d + 1) mX8_select 66 [some (vR 41 r0), some (vR 47 r1), none] [] h Q := by
  unfold W_X8_select_66 at w
  refine jw_aload_n (pc' := 67) rfl rfl ?_
  refine jw_ldcwS (pc' := 70) rfl rfl rfl rfl ?_
  obtain ⟨g_1, w⟩ := w
  refine jw_cI (st := []) (sa := [vR 41 r0, vR 51 (jcs D 248)]) okX8_take rfl rfl rfl rfl rfl rfl (jstp_virtual (sa := [vR 51 (jcs D 248)]) (st := []) (k := 0) rfl rfl sX8_take okX8_take g_1 (one41.k g_1) rfl rfl) w (fun v_4 h_2 _ _ w => ?_)
  refine jw_if_eq (tgt := 85) (pc' := 76) rfl rfl (fun c_5 => ?_) (fun c_5 => ?_)
  · replace w := w.1 c_5
    refine jw_aload_n (pc' := 86) rfl rfl ?_
    refine jw_ldcwS (pc' := 89) rfl rfl rfl rfl ?_
    refine jw_cI (st := []) (sa := [vR 41 r0, vR 51 (jcs D 285)]) okX8_is rfl rfl rfl rfl rfl rfl (jstp_virtual (sa := [vR 51 (jcs D 285)]) (st := []) (k := 0) rfl rfl sX8_is okX8_is g_1 (one41.k g_1) rfl rfl) w (fun v_8 h_6 _ _ w => ?_)
    refine jw_if_ne (tgt := 105) (pc' := 95) rfl rfl (fun c_9 => ?_) (fun c_9 => ?_)
    · replace w := w.1 c_9
      exact w_X8_select_105 hK66 w
    · replace w := w.2 c_9
      refine jw_aload_n (pc' := 96) rfl rfl ?_
      refine jw_ldcwS (pc' := 99) rfl rfl rfl rfl ?_
      refine jw_cI (st := []) (sa := [vR 41 r0, vR 51 (jcs D 286)]) okX8_is rfl rfl rfl rfl rfl rfl (jstp_virtual (sa := [vR 51 (jcs D 286)]) (st := []) (k := 0) rfl rfl sX8_is okX8_is g_1 (one41.k g_1) rfl rfl) w (fun v_12 h_10 _ _ w => ?_)
      refine jw_if_eq (tgt := 151) (pc' := 105) rfl rfl (fun c_13 => ?_) (fun c_13 => ?_)
      · replace w := w.1 c_13
        exact w_X8_select_151 w
      · replace w := w.2 c_13
        exact w_X8_select_105 hK66 w
  · replace w := w.2 c_5
    refine jw_aload_n (pc' := 77) rfl rfl ?_
    refine jw_aload_n (pc' := 78) rfl rfl ?_
    refine jw_iconst (pc' := 79) (x := (0 : Int32)) rfl rfl ?_
    refine jw_cV (st := []) (sa := [vR 41 r0, vR 47 r1, vI (0 : Int32)]) okX8_sourceOf rfl rfl rfl rfl rfl rfl (jstp_virtual (sa := [vR 47 r1, vI (0 : Int32)]) (st := []) (k := 0) rfl rfl sX8_sourceOf okX8_sourceOf g_1 (one41.k g_1) rfl rfl) w (fun h_14 _ _ w => ?_)
    refine jw_goto (pc' := 66) rfl rfl ?_
    exact hK66 _ _ _ w
def L_X8_select_66 (D : JD) (d : Nat) (Q : JO → JH → Prop) : Nat → Nat → Nat → JH → Prop
  | 0 => fun _ _ _ => False
  | n + 1 => fun r0 r1 h => W_X8_select_66 D d Q (L_X8_select_66 D d Q n) r0 r1 h
theorem l_X8_select_66 {D : JD} {d : Nat} {Q : JO → JH → Prop} : ∀ (n : Nat) (r0 : Nat) (r1 : Nat) (h : JH), L_X8_select_66 D d Q n r0 r1 h → JW D (d + 1) mX8_select 66 [some (vR 41 r0), some (vR 47 r1), none] [] h Q := by
  intro n
  induction n with
  | zero => intro _ _ _ w; exact w.elim
  | succ n ih => intro _ _ h w; exact w_X8_select_66 ih w
def W_X8_select_32 (D : JD) (d : Nat) (Q : JO → JH → Prop) (K17 : Nat → Nat → JH → Prop) (r0 : Nat) (r1 : Nat) (q0 : Nat) (s1 : Int32) (h : JH) : Prop :=
  q0 ≠ 0 ∧ (cX8_can D d q0 s1 h (pV D h (fun h_2 => r0 ≠ 0 ∧ (cX8_item D d r0 r1 h_2 (pV D h_2 (fun h_6 => cX8_take D d r0 (jcs D 248) h_6 (pI D h_6 (fun v_11 h_9 => (¬ v_11 = 0 → K17 r0 r1 h_9) ∧ (v_11 = 0 → cX8_take D d r0 (jcs D 278) h_9 (pI D h_9 (fun v_15 h_13 => (v_15 = 0 → W_X8_select_151 D d Q r0 r1 h_13) ∧ (¬ v_15 = 0 → cX8_sourceOf D d r0 r1 (0 : Int32) h_13 (pV D h_13 (fun h_17 => ∃ n, L_X8_select_66 D d Q n r0 r1 h_17) (jth Q)))) (jth Q)))) (jth Q))) (jth Q)))) (jth Q)))
theorem w_X8_select_32 {D : JD} {d : Nat} {Q : JO → JH → Prop} {K17 : Nat → Nat → JH → Prop} {r0 : Nat} {r1 : Nat} {q0 : Nat} {s1 : Int32} {h : JH} (hK17 : ∀ (r0 : Nat) (r1 : Nat) (h : JH), K17 r0 r1 h → JW D (d + 1) mX8_select 17 [some (vR 41 r0), some (vR 47 r1), none] [] h Q) (w : W_X8_select_32 D d Q K17 r0 r1 q0 s1 h) : JW D (d + 1) mX8_select 32 [some (vR 41 r0), some (vR 47 r1), none] [vI s1, vR 41 q0] h Q := by
  unfold W_X8_select_32 at w
  obtain ⟨g_1, w⟩ := w
  refine jw_cV (st := []) (sa := [vR 41 q0, vI s1]) okX8_can rfl rfl rfl rfl rfl rfl (jstp_virtual (sa := [vI s1]) (st := []) (k := 0) rfl rfl sX8_can okX8_can g_1 (one41.k g_1) rfl rfl) w (fun h_2 _ _ w => ?_)
  refine jw_aload_n (pc' := 36) rfl rfl ?_
  refine jw_aload_n (pc' := 37) rfl rfl ?_
  obtain ⟨g_5, w⟩ := w
  refine jw_cV (st := []) (sa := [vR 41 r0, vR 47 r1]) okX8_item rfl rfl rfl rfl rfl rfl (jstp_virtual (sa := [vR 47 r1]) (st := []) (k := 0) rfl rfl sX8_item okX8_item g_5 (one41.k g_5) rfl rfl) w (fun h_6 _ _ w => ?_)
  refine jw_aload_n (pc' := 41) rfl rfl ?_
  refine jw_ldcwS (pc' := 44) rfl rfl rfl rfl ?_
  refine jw_cI (st := []) (sa := [vR 41 r0, vR 51 (jcs D 248)]) okX8_take rfl rfl rfl rfl rfl rfl (jstp_virtual (sa := [vR 51 (jcs D 248)]) (st := []) (k := 0) rfl rfl sX8_take okX8_take g_5 (one41.k g_5) rfl rfl) w (fun v_11 h_9 _ _ w => ?_)
  refine jw_if_ne (tgt := 17) (pc' := 50) rfl rfl (fun c_12 => ?_) (fun c_12 => ?_)
  · replace w := w.1 c_12
    exact hK17 _ _ _ w
  · replace w := w.2 c_12
    refine jw_aload_n (pc' := 51) rfl rfl ?_
    refine jw_ldcwS (pc' := 54) rfl rfl rfl rfl ?_
    refine jw_cI (st := []) (sa := [vR 41 r0, vR 51 (jcs D 278)]) okX8_take rfl rfl rfl rfl rfl rfl (jstp_virtual (sa := [vR 51 (jcs D 278)]) (st := []) (k := 0) rfl rfl sX8_take okX8_take g_5 (one41.k g_5) rfl rfl) w (fun v_15 h_13 _ _ w => ?_)
    refine jw_if_eq (tgt := 151) (pc' := 60) rfl rfl (fun c_16 => ?_) (fun c_16 => ?_)
    · replace w := w.1 c_16
      exact w_X8_select_151 w
    · replace w := w.2 c_16
      refine jw_aload_n (pc' := 61) rfl rfl ?_
      refine jw_aload_n (pc' := 62) rfl rfl ?_
      refine jw_iconst (pc' := 63) (x := (0 : Int32)) rfl rfl ?_
      refine jw_cV (st := []) (sa := [vR 41 r0, vR 47 r1, vI (0 : Int32)]) okX8_sourceOf rfl rfl rfl rfl rfl rfl (jstp_virtual (sa := [vR 47 r1, vI (0 : Int32)]) (st := []) (k := 0) rfl rfl sX8_sourceOf okX8_sourceOf g_5 (one41.k g_5) rfl rfl) w (fun h_17 _ _ w => ?_)
      obtain ⟨n, w⟩ := w
      exact l_X8_select_66 n _ _ _ w
def W_X8_select_17 (D : JD) (d : Nat) (Q : JO → JH → Prop) (K17 : Nat → Nat → JH → Prop) (r0 : Nat) (r1 : Nat) (h : JH) : Prop :=
  r1 ≠ 0 ∧ (((12 : Int32) ≤ (jfi h 285 r1) → W_X8_select_32 D d Q K17 r0 r1 r0 (0 : Int32) h) ∧ (¬ (12 : Int32) ≤ (jfi h 285 r1) → W_X8_select_32 D d Q K17 r0 r1 r0 (1 : Int32) h))
theorem w_X8_select_17 {D : JD} {d : Nat} {Q : JO → JH → Prop} {K17 : Nat → Nat → JH → Prop} {r0 : Nat} {r1 : Nat} {h : JH} (hK17 : ∀ (r0 : Nat) (r1 : Nat) (h : JH), K17 r0 r1 h → JW D (d + 1) mX8_select 17 [some (vR 41 r0), some (vR 47 r1), none] [] h Q) (w : W_X8_select_17 D d Q K17 r0 r1 h) : JW D (d + 1) mX8_select 17 [some (vR 41 r0), some (vR 47 r1), none] [] h Q := by
  unfold W_X8_select_17 at w
  refine jw_aload_n (pc' := 18) rfl rfl ?_
  refine jw_aload_n (pc' := 19) rfl rfl ?_
  obtain ⟨g_1, w⟩ := w
  refine jw_getI (pc' := 22) (F := 285) rfl rfl rfl rfl g_1 ?_
  refine jw_bipush (pc' := 24) (x := (12 : Int32)) rfl rfl ?_
  refine jw_icmp_ge (tgt := 31) (pc' := 27) rfl rfl (fun c_2 => ?_) (fun c_2 => ?_)
  · replace w := w.1 c_2
    refine jw_iconst (pc' := 32) (x := (0 : Int32)) rfl rfl ?_
    exact w_X8_select_32 hK17 w
  · replace w := w.2 c_2
    refine jw_iconst (pc' := 28) (x := (1 : Int32)) rfl rfl ?_
    refine jw_goto (pc' := 32) rfl rfl ?_
    exact w_X8_select_32 hK17 w
def L_X8_select_17 (D : JD) (d : Nat) (Q : JO → JH → Prop) : Nat → Nat → Nat → JH → Prop
  | 0 => fun _ _ _ => False
  | n + 1 => fun r0 r1 h => W_X8_select_17 D d Q (L_X8_select_17 D d Q n) r0 r1 h
theorem l_X8_select_17 {D : JD} {d : Nat} {Q : JO → JH → Prop} : ∀ (n : Nat) (r0 : Nat) (r1 : Nat) (h : JH), L_X8_select_17 D d Q n r0 r1 h → JW D (d + 1) mX8_select 17 [some (vR 41 r0), some (vR 47 r1), none] [] h Q := by
  intro n
  induction n with
  | zero => intro _ _ _ w; exact w.elim
  | succ n ih => intro _ _ h w; exact w_X8_select_17 ih w
def W_X8_select_0 (D : JD) (d : Nat) (Q : JO → JH → Prop) (r0 : Nat) (r1 : Nat) (h : JH) : Prop :=
  r1 ≠ 0 ∧ ∀ h_2 : JH, h_2 = wfi h 270 r1 (8 : Int32) → (r0 ≠ 0 ∧ (cX8_take D d r0 (jcs D 283) h_2 (pI D h_2 (fun v_7 h_5 => jbo v_7 ∧ ∀ h_9 : JH, h_9 = wfi h_5 283 r1 v_7 → (∃ n, L_X8_select_17 D d Q n r0 r1 h_9)) (jth Q))))
theorem w_X8_select_0 {D : JD} {d : Nat} {Q : JO → JH → Prop} {r0 : Nat} {r1 : Nat} {h : JH} (w : W_X8_select_0 D d Q r0 r1 h) : JW D (d + 1) mX8_select 0 [some (vR 41 r0), some (vR 47 r1), none] [] h Q := by
  unfold W_X8_select_0 at w
  refine jw_aload_n (pc' := 1) rfl rfl ?_
  refine jw_bipush (pc' := 3) (x := (8 : Int32)) rfl rfl ?_
  obtain ⟨g_1, w⟩ := w
  refine jw_putI' (pc' := 6) (F := 270) rfl rfl rfl (Or.inr rfl) (Or.inl rfl) rfl (rfl) (rfl) rfl g_1 (fun h_2 e_3 => ?_)
  replace w := w h_2 e_3
  refine jw_aload_n (pc' := 7) rfl rfl ?_
  refine jw_aload_n (pc' := 8) rfl rfl ?_
  refine jw_ldcwS (pc' := 11) rfl rfl rfl rfl ?_
  obtain ⟨g_4, w⟩ := w
  refine jw_cI (st := [vR 47 r1]) (sa := [vR 41 r0, vR 51 (jcs D 283)]) okX8_take rfl rfl rfl rfl rfl rfl (jstp_virtual (sa := [vR 51 (jcs D 283)]) (st := [vR 47 r1]) (k := 0) rfl rfl sX8_take okX8_take g_4 (one41.k g_4) rfl rfl) w (fun v_7 h_5 _ _ w => ?_)
  obtain ⟨g_8, w⟩ := w
  refine jw_putI' (pc' := 17) (F := 283) rfl rfl rfl (Or.inr rfl) (Or.inl rfl) rfl (g_8.nr) (g_8.ft) rfl g_1 (fun h_9 e_10 => ?_)
  replace w := w h_9 e_10
  obtain ⟨n, w⟩ := w
  exact l_X8_select_17 n _ _ _ w
def T_X8_select (D : JD) (d : Nat) (Q : JO → JH → Prop) (r0 : Nat) (r1 : Nat) (h : JH) : Prop := W_X8_select_0 D d Q r0 r1 h
theorem t_X8_select {D : JD} {d : Nat} {Q : JO → JH → Prop} {r0 : Nat} {r1 : Nat} {h : JH} (w : T_X8_select D d Q r0 r1 h) : cX8_select D (d + 1) r0 r1 h Q := by
  unfold T_X8_select at w
  unfold cX8_select
  exact w_X8_select_0 w
def W_X8_item_108 (D : JD) (d : Nat) (Q : JO → JH → Prop) (r1 : Nat) (h : JH) : Prop :=
  r1 ≠ 0 ∧ (∀ h_2 : JH, h_2 = wfi h 285 r1 ((jfi h 285 r1) + (1 : Int32)) → (Q (.inl none) h_2))
theorem w_X8_item_108 {D : JD} {d : Nat} {Q : JO → JH → Prop} {r1 : Nat} {h : JH} (w : W_X8_item_108 D d Q r1 h) : JW D (d + 1) mX8_item 108 [none, some (vR 47 r1), none, none] [] h Q := by
  unfold W_X8_item_108 at w
  refine jw_aload_n (pc' := 109) rfl rfl ?_
  refine jw_dup (pc' := 110) rfl rfl ?_
  obtain ⟨g_1, w⟩ := w
  refine jw_getI (pc' := 113) (F := 285) rfl rfl rfl rfl g_1 ?_
  refine jw_iconst (pc' := 114) (x := (1 : Int32)) rfl rfl ?_
  refine jw_iadd (pc' := 115) rfl ?_
  refine jw_putI' (pc' := 118) (F := 285) rfl rfl rfl (Or.inr rfl) (Or.inl rfl) rfl (rfl) (rfl) rfl g_1 (fun h_2 e_3 => ?_)
  replace w := w h_2 e_3
  exact jw_return rfl rfl w
def W_X8_item_78 (D : JD) (d : Nat) (Q : JO → JH → Prop) (r0 : Nat) (r1 : Nat) (x2 : Int32) (h : JH) : Prop :=
  r1 ≠ 0 ∧ (r0 ≠ 0 ∧ (cX8_expression D d r0 h (pR D h 48 (fun v_5 h_3 => (jfr h 284 r1) ≠ 0 ∧ jin x2 (jln h_3 (jfr h 284 r1)) ∧ ∀ h_8 : JH, h_8 = war h_3 (jfr h 284 r1) (ixn x2) v_5 → (cX8_take D d r0 (jcs D 284) h_8 (pI D h_8 (fun v_12 h_10 => (v_12 = 0 → W_X8_item_108 D d Q r1 h_10) ∧ (¬ v_12 = 0 → cX8_name D d r0 h_10 (pR D h_10 64 (fun v_16 h_14 => (jfr h_10 272 r1) ≠ 0 ∧ jin x2 (jln h_14 (jfr h_10 272 r1)) ∧ ∀ h_19 : JH, h_19 = war h_14 (jfr h_10 272 r1) (ixn x2) v_16 → (W_X8_item_108 D d Q r1 h_19)) (jth Q)))) (jth Q)))) (jth Q))))
theorem w_X8_item_78 {D : JD} {d : Nat} {Q : JO → JH → Prop} {r0 : Nat} {r1 : Nat} {x2 : Int32} {h : JH} (w : W_X8_item_78 D d Q r0 r1 x2 h) : JW D (d + 1) mX8_item 78 [some (vR 41 r0), some (vR 47 r1), some (vI x2), none] [] h Q := by
  unfold W_X8_item_78 at w
  refine jw_aload_n (pc' := 79) rfl rfl ?_
  obtain ⟨g_1, w⟩ := w
  refine jw_getR (pc' := 82) (F := 284) (t' := 204) rfl rfl rfl rfl rfl g_1 ?_
  refine jw_iload_n (pc' := 83) rfl rfl ?_
  refine jw_aload_n (pc' := 84) rfl rfl ?_
  obtain ⟨g_2, w⟩ := w
  refine jw_cR (st := [vI x2, vR 204 (jfr h 284 r1)]) (sa := [vR 41 r0]) okX8_expression rfl rfl rfl rfl rfl rfl (jstp_virtual (sa := []) (st := [vI x2, vR 204 (jfr h 284 r1)]) (k := 0) rfl rfl sX8_expression okX8_expression g_2 (one41.k g_2) rfl rfl) w (fun v_5 h_3 _ _ _ w => ?_)
  obtain ⟨g_6, w⟩ := w
  obtain ⟨g_7, w⟩ := w
  refine jw_aast' (pc' := 88) rfl rfl rfl rfl rfl rfl g_6 g_7 (fun h_8 e_9 => ?_)
  replace w := w h_8 e_9
  refine jw_aload_n (pc' := 89) rfl rfl ?_
  refine jw_ldcwS (pc' := 92) rfl rfl rfl rfl ?_
  refine jw_cI (st := []) (sa := [vR 41 r0, vR 51 (jcs D 284)]) okX8_take rfl rfl rfl rfl rfl rfl (jstp_virtual (sa := [vR 51 (jcs D 284)]) (st := []) (k := 0) rfl rfl sX8_take okX8_take g_2 (one41.k g_2) rfl rfl) w (fun v_12 h_10 _ _ w => ?_)
  refine jw_if_eq (tgt := 108) (pc' := 98) rfl rfl (fun c_13 => ?_) (fun c_13 => ?_)
  · replace w := w.1 c_13
    refine jw_gen (ls' := [none, some (vR 47 r1), none, none]) (st' := []) (And.intro (Or.inl rfl) (trivial)) (trivial) ?_
    exact w_X8_item_108 w
  · replace w := w.2 c_13
    refine jw_aload_n (pc' := 99) rfl rfl ?_
    refine jw_getR (pc' := 102) (F := 272) (t' := 198) rfl rfl rfl rfl rfl g_1 ?_
    refine jw_iload_n (pc' := 103) rfl rfl ?_
    refine jw_aload_n (pc' := 104) rfl rfl ?_
    refine jw_cR (st := [vI x2, vR 198 (jfr h_10 272 r1)]) (sa := [vR 41 r0]) okX8_name rfl rfl rfl rfl rfl rfl (jstp_virtual (sa := []) (st := [vI x2, vR 198 (jfr h_10 272 r1)]) (k := 0) rfl rfl sX8_name okX8_name g_2 (one41.k g_2) rfl rfl) w (fun v_16 h_14 _ _ _ w => ?_)
    obtain ⟨g_17, w⟩ := w
    obtain ⟨g_18, w⟩ := w
    refine jw_aast' (pc' := 108) rfl rfl rfl rfl rfl rfl g_17 g_18 (fun h_19 e_20 => ?_)
    replace w := w h_19 e_20
    refine jw_gen (ls' := [none, some (vR 47 r1), none, none]) (st' := []) (And.intro (Or.inl rfl) (trivial)) (trivial) ?_
    exact w_X8_item_108 w
def W_X8_item_0 (D : JD) (d : Nat) (Q : JO → JH → Prop) (r0 : Nat) (r1 : Nat) (h : JH) : Prop :=
  r1 ≠ 0 ∧ (r0 ≠ 0 ∧ (cX8_take D d r0 (jcs D 262) h (pI D h (fun v_5 h_3 => (v_5 = 0 → (¬ (jfi h_3 183 r0) = (2 : Int32) → W_X8_item_78 D d Q r0 r1 (jfi h 285 r1) h_3) ∧ ((jfi h_3 183 r0) = (2 : Int32) → cX8_isStar D d r0 h_3 (pI D h_3 (fun v_10 h_8 => (v_10 = 0 → W_X8_item_78 D d Q r0 r1 (jfi h 285 r1) h_8) ∧ (¬ v_10 = 0 → cX8_node D d (15 : Int32) (0 : Int32) h_8 (pR D h_8 48 (fun v_14 h_12 => cX8_name D d r0 h_12 (pR D h_12 64 (fun v_17 h_15 => v_14 ≠ 0 ∧ ∀ h_19 : JH, h_19 = wfr h_15 308 v_14 v_17 → (cX8_next D d r0 h_19 (pV D h_19 (fun h_21 => cX8_next D d r0 h_21 (pV D h_21 (fun h_24 => (jfr h_24 284 r1) ≠ 0 ∧ jin (jfi h 285 r1) (jln h_24 (jfr h_24 284 r1)) ∧ ∀ h_29 : JH, h_29 = war h_24 (jfr h_24 284 r1) (ixn (jfi h 285 r1)) v_14 → (W_X8_item_108 D d Q r1 h_29)) (jth Q))) (jth Q)))) (jth Q))) (jth Q)))) (jth Q)))) ∧ (¬ v_5 = 0 → cX8_node D d (15 : Int32) (0 : Int32) h_3 (pR D h_3 48 (fun v_33 h_31 => (jfr h_3 284 r1) ≠ 0 ∧ jin (jfi h 285 r1) (jln h_31 (jfr h_3 284 r1)) ∧ ∀ h_36 : JH, h_36 = war h_31 (jfr h_3 284 r1) (ixn (jfi h 285 r1)) v_33 → (W_X8_item_108 D d Q r1 h_36)) (jth Q)))) (jth Q))))
theorem w_X8_item_0 {D : JD} {d : Nat} {Q : JO → JH → Prop} {r0 : Nat} {r1 : Nat} {h : JH} (w : W_X8_item_0 D d Q r0 r1 h) : JW D (d + 1) mX8_item 0 [some (vR 41 r0), some (vR 47 r1), none, none] [] h Q := by
  unfold W_X8_item_0 at w
  refine jw_aload_n (pc' := 1) rfl rfl ?_
  obtain ⟨g_1, w⟩ := w
  refine jw_getI (pc' := 4) (F := 285) rfl rfl rfl rfl g_1 ?_
  refine jw_istore_n (pc' := 5) (ls' := [some (vR 41 r0), some (vR 47 r1), some (vI (jfi h 285 r1)), none]) rfl (by decide) rfl ?_
  refine jw_aload_n (pc' := 6) rfl rfl ?_
  refine jw_ldcwS (pc' := 9) rfl rfl rfl rfl ?_
  obtain ⟨g_2, w⟩ := w
  refine jw_cI (st := []) (sa := [vR 41 r0, vR 51 (jcs D 262)]) okX8_take rfl rfl rfl rfl rfl rfl (jstp_virtual (sa := [vR 51 (jcs D 262)]) (st := []) (k := 0) rfl rfl sX8_take okX8_take g_2 (one41.k g_2) rfl rfl) w (fun v_5 h_3 _ _ w => ?_)
  refine jw_if_eq (tgt := 30) (pc' := 15) rfl rfl (fun c_6 => ?_) (fun c_6 => ?_)
  · replace w := w.1 c_6
    refine jw_aload_n (pc' := 31) rfl rfl ?_
    refine jw_getI (pc' := 34) (F := 183) rfl rfl rfl rfl g_2 ?_
    refine jw_iconst (pc' := 35) (x := (2 : Int32)) rfl rfl ?_
    refine jw_icmp_ne (tgt := 78) (pc' := 38) rfl rfl (fun c_7 => ?_) (fun c_7 => ?_)
    · replace w := w.1 c_7
      exact w_X8_item_78 w
    · replace w := w.2 c_7
      refine jw_aload_n (pc' := 39) rfl rfl ?_
      refine jw_cI (st := []) (sa := [vR 41 r0]) okX8_isStar rfl rfl rfl rfl rfl rfl (jstp_virtual (sa := []) (st := []) (k := 0) rfl rfl sX8_isStar okX8_isStar g_2 (one41.k g_2) rfl rfl) w (fun v_10 h_8 _ _ w => ?_)
      refine jw_if_eq (tgt := 78) (pc' := 45) rfl rfl (fun c_11 => ?_) (fun c_11 => ?_)
      · replace w := w.1 c_11
        exact w_X8_item_78 w
      · replace w := w.2 c_11
        refine jw_bipush (pc' := 47) (x := (15 : Int32)) rfl rfl ?_
        refine jw_iconst (pc' := 48) (x := (0 : Int32)) rfl rfl ?_
        refine jw_cR (st := []) (sa := [vI (15 : Int32), vI (0 : Int32)]) okX8_node rfl rfl rfl rfl rfl rfl (jstp_static (sa := [vI (15 : Int32), vI (0 : Int32)]) (st := []) rfl rfl sX8_node okX8_node rfl rfl) w (fun v_14 h_12 _ _ _ w => ?_)
        refine jw_astore_n (pc' := 52) (ls' := [some (vR 41 r0), some (vR 47 r1), some (vI (jfi h 285 r1)), some (vR 48 v_14)]) rfl (by decide) rfl ?_
        refine jw_aload_n (pc' := 53) rfl rfl ?_
        refine jw_aload_n (pc' := 54) rfl rfl ?_
        refine jw_cR (st := [vR 48 v_14]) (sa := [vR 41 r0]) okX8_name rfl rfl rfl rfl rfl rfl (jstp_virtual (sa := []) (st := [vR 48 v_14]) (k := 0) rfl rfl sX8_name okX8_name g_2 (one41.k g_2) rfl rfl) w (fun v_17 h_15 _ _ _ w => ?_)
        obtain ⟨g_18, w⟩ := w
        refine jw_putR' (pc' := 60) (F := 308) rfl rfl rfl (Or.inr rfl) (Or.inl rfl) rfl rfl rfl g_18 (fun h_19 e_20 => ?_)
        replace w := w h_19 e_20
        refine jw_aload_n (pc' := 61) rfl rfl ?_
        refine jw_cV (st := []) (sa := [vR 41 r0]) okX8_next rfl rfl rfl rfl rfl rfl (jstp_virtual (sa := []) (st := []) (k := 0) rfl rfl sX8_next okX8_next g_2 (one41.k g_2) rfl rfl) w (fun h_21 _ _ w => ?_)
        refine jw_aload_n (pc' := 65) rfl rfl ?_
        refine jw_cV (st := []) (sa := [vR 41 r0]) okX8_next rfl rfl rfl rfl rfl rfl (jstp_virtual (sa := []) (st := []) (k := 0) rfl rfl sX8_next okX8_next g_2 (one41.k g_2) rfl rfl) w (fun h_24 _ _ w => ?_)
        refine jw_aload_n (pc' := 69) rfl rfl ?_
        refine jw_getR (pc' := 72) (F := 284) (t' := 204) rfl rfl rfl rfl rfl g_1 ?_
        refine jw_iload_n (pc' := 73) rfl rfl ?_
        refine jw_aload_n (pc' := 74) rfl rfl ?_
        obtain ⟨g_27, w⟩ := w
        obtain ⟨g_28, w⟩ := w
        refine jw_aast' (pc' := 75) rfl rfl rfl rfl rfl rfl g_27 g_28 (fun h_29 e_30 => ?_)
        replace w := w h_29 e_30
        refine jw_goto (pc' := 108) rfl rfl ?_
        refine jw_gen (ls' := [none, some (vR 47 r1), none, none]) (st' := []) (And.intro (Or.inl rfl) (trivial)) (trivial) ?_
        exact w_X8_item_108 w
  · replace w := w.2 c_6
    refine jw_aload_n (pc' := 16) rfl rfl ?_
    refine jw_getR (pc' := 19) (F := 284) (t' := 204) rfl rfl rfl rfl rfl g_1 ?_
    refine jw_iload_n (pc' := 20) rfl rfl ?_
    refine jw_bipush (pc' := 22) (x := (15 : Int32)) rfl rfl ?_
    refine jw_iconst (pc' := 23) (x := (0 : Int32)) rfl rfl ?_
    refine jw_cR (st := [vI (jfi h 285 r1), vR 204 (jfr h_3 284 r1)]) (sa := [vI (15 : Int32), vI (0 : Int32)]) okX8_node rfl rfl rfl rfl rfl rfl (jstp_static (sa := [vI (15 : Int32), vI (0 : Int32)]) (st := [vI (jfi h 285 r1), vR 204 (jfr h_3 284 r1)]) rfl rfl sX8_node okX8_node rfl rfl) w (fun v_33 h_31 _ _ _ w => ?_)
    obtain ⟨g_34, w⟩ := w
    obtain ⟨g_35, w⟩ := w
    refine jw_aast' (pc' := 27) rfl rfl rfl rfl rfl rfl g_34 g_35 (fun h_36 e_37 => ?_)
    replace w := w h_36 e_37
    refine jw_goto (pc' := 108) rfl rfl ?_
    refine jw_gen (ls' := [none, some (vR 47 r1), none, none]) (st' := []) (And.intro (Or.inl rfl) (trivial)) (trivial) ?_
    exact w_X8_item_108 w
def T_X8_item (D : JD) (d : Nat) (Q : JO → JH → Prop) (r0 : Nat) (r1 : Nat) (h : JH) : Prop := W_X8_item_0 D d Q r0 r1 h
theorem t_X8_item {D : JD} {d : Nat} {Q : JO → JH → Prop} {r0 : Nat} {r1 : Nat} {h : JH} (w : T_X8_item D d Q r0 r1 h) : cX8_item D (d + 1) r0 r1 h Q := by
  unfold T_X8_item at w
  unfold cX8_item
  exact w_X8_item_0 w
def W_X8_isStar_46 (D : JD) (d : Nat) (Q : JO → JH → Prop) (r0 : Nat) (x1 : Int32) (x2 : Int32) (r3 : Nat) (x4 : Int32) (h : JH) : Prop :=
  r0 ≠ 0 ∧ ∀ h_2 : JH, h_2 = wfi h 184 r0 x1 → (∀ h_4 : JH, h_4 = wfi h_2 185 r0 x2 → (∀ h_6 : JH, h_6 = wfr h_4 186 r0 r3 → (∀ h_8 : JH, h_8 = wfi h_6 183 r0 (2 : Int32) → (jbo x4 ∧ (Q (.inl (some (vI x4))) h_8)))))
theorem w_X8_isStar_46 {D : JD} {d : Nat} {Q : JO → JH → Prop} {r0 : Nat} {x1 : Int32} {x2 : Int32} {r3 : Nat} {x4 : Int32} {h : JH} (w : W_X8_isStar_46 D d Q r0 x1 x2 r3 x4 h) : JW D (d + 1) mX8_isStar 46 [some (vR 41 r0), some (vI x1), some (vI x2), some (vR 64 r3), some (vI x4)] [] h Q := by
  unfold W_X8_isStar_46 at w
  refine jw_aload_n (pc' := 47) rfl rfl ?_
  refine jw_iload_n (pc' := 48) rfl rfl ?_
  obtain ⟨g_1, w⟩ := w
  refine jw_putI' (pc' := 51) (F := 184) rfl rfl rfl (Or.inr rfl) (Or.inl rfl) rfl (rfl) (rfl) rfl g_1 (fun h_2 e_3 => ?_)
  replace w := w h_2 e_3
  refine jw_aload_n (pc' := 52) rfl rfl ?_
  refine jw_iload_n (pc' := 53) rfl rfl ?_
  refine jw_putI' (pc' := 56) (F := 185) rfl rfl rfl (Or.inr rfl) (Or.inl rfl) rfl (rfl) (rfl) rfl g_1 (fun h_4 e_5 => ?_)
  replace w := w h_4 e_5
  refine jw_aload_n (pc' := 57) rfl rfl ?_
  refine jw_aload_n (pc' := 58) rfl rfl ?_
  refine jw_putR' (pc' := 61) (F := 186) rfl rfl rfl (Or.inr rfl) (Or.inl rfl) rfl rfl rfl g_1 (fun h_6 e_7 => ?_)
  replace w := w h_6 e_7
  refine jw_aload_n (pc' := 62) rfl rfl ?_
  refine jw_iconst (pc' := 63) (x := (2 : Int32)) rfl rfl ?_
  refine jw_putI' (pc' := 66) (F := 183) rfl rfl rfl (Or.inr rfl) (Or.inl rfl) rfl (rfl) (rfl) rfl g_1 (fun h_8 e_9 => ?_)
  replace w := w h_8 e_9
  refine jw_iload (pc' := 68) rfl rfl ?_
  obtain ⟨g_10, w⟩ := w
  exact jw_ireturn rfl rfl (g_10.nr) w
def W_X8_isStar_0 (D : JD) (d : Nat) (Q : JO → JH → Prop) (r0 : Nat) (h : JH) : Prop :=
  r0 ≠ 0 ∧ (cX8_next D d r0 h (pV D h (fun h_2 => cX8_is D d r0 (jcs D 263) h_2 (pI D h_2 (fun v_7 h_5 => (v_7 = 0 → W_X8_isStar_46 D d Q r0 (jfi h 184 r0) (jfi h 185 r0) (jfr h 186 r0) v_7 h_5) ∧ (¬ v_7 = 0 → cX8_next D d r0 h_5 (pV D h_5 (fun h_9 => cX8_is D d r0 (jcs D 262) h_9 (pI D h_9 (fun v_14 h_12 => W_X8_isStar_46 D d Q r0 (jfi h 184 r0) (jfi h 185 r0) (jfr h 186 r0) v_14 h_12) (jth Q))) (jth Q)))) (jth Q))) (jth Q)))
theorem w_X8_isStar_0 {D : JD} {d : Nat} {Q : JO → JH → Prop} {r0 : Nat} {h : JH} (w : W_X8_isStar_0 D d Q r0 h) : JW D (d + 1) mX8_isStar 0 [some (vR 41 r0), none, none, none, none] [] h Q := by
  unfold W_X8_isStar_0 at w
  refine jw_aload_n (pc' := 1) rfl rfl ?_
  obtain ⟨g_1, w⟩ := w
  refine jw_getI (pc' := 4) (F := 184) rfl rfl rfl rfl g_1 ?_
  refine jw_istore_n (pc' := 5) (ls' := [some (vR 41 r0), some (vI (jfi h 184 r0)), none, none, none]) rfl (by decide) rfl ?_
  refine jw_aload_n (pc' := 6) rfl rfl ?_
  refine jw_getI (pc' := 9) (F := 185) rfl rfl rfl rfl g_1 ?_
  refine jw_istore_n (pc' := 10) (ls' := [some (vR 41 r0), some (vI (jfi h 184 r0)), some (vI (jfi h 185 r0)), none, none]) rfl (by decide) rfl ?_
  refine jw_aload_n (pc' := 11) rfl rfl ?_
  refine jw_getR (pc' := 14) (F := 186) (t' := 64) rfl rfl rfl rfl rfl g_1 ?_
  refine jw_astore_n (pc' := 15) (ls' := [some (vR 41 r0), some (vI (jfi h 184 r0)), some (vI (jfi h 185 r0)), some (vR 64 (jfr h 186 r0)), none]) rfl (by decide) rfl ?_
  refine jw_aload_n (pc' := 16) rfl rfl ?_
  refine jw_cV (st := []) (sa := [vR 41 r0]) okX8_next rfl rfl rfl rfl rfl rfl (jstp_virtual (sa := []) (st := []) (k := 0) rfl rfl sX8_next okX8_next g_1 (one41.k g_1) rfl rfl) w (fun h_2 _ _ w => ?_)
  refine jw_aload_n (pc' := 20) rfl rfl ?_
  refine jw_ldcwS (pc' := 23) rfl rfl rfl rfl ?_
  refine jw_cI (st := []) (sa := [vR 41 r0, vR 51 (jcs D 263)]) okX8_is rfl rfl rfl rfl rfl rfl (jstp_virtual (sa := [vR 51 (jcs D 263)]) (st := []) (k := 0) rfl rfl sX8_is okX8_is g_1 (one41.k g_1) rfl rfl) w (fun v_7 h_5 _ _ w => ?_)
  refine jw_istore (pc' := 28) (ls' := [some (vR 41 r0), some (vI (jfi h 184 r0)), some (vI (jfi h 185 r0)), some (vR 64 (jfr h 186 r0)), some (vI v_7)]) rfl (by decide) rfl ?_
  refine jw_iload (pc' := 30) rfl rfl ?_
  refine jw_if_eq (tgt := 46) (pc' := 33) rfl rfl (fun c_8 => ?_) (fun c_8 => ?_)
  · replace w := w.1 c_8
    exact w_X8_isStar_46 w
  · replace w := w.2 c_8
    refine jw_aload_n (pc' := 34) rfl rfl ?_
    refine jw_cV (st := []) (sa := [vR 41 r0]) okX8_next rfl rfl rfl rfl rfl rfl (jstp_virtual (sa := []) (st := []) (k := 0) rfl rfl sX8_next okX8_next g_1 (one41.k g_1) rfl rfl) w (fun h_9 _ _ w => ?_)
    refine jw_aload_n (pc' := 38) rfl rfl ?_
    refine jw_ldcwS (pc' := 41) rfl rfl rfl rfl ?_
    refine jw_cI (st := []) (sa := [vR 41 r0, vR 51 (jcs D 262)]) okX8_is rfl rfl rfl rfl rfl rfl (jstp_virtual (sa := [vR 51 (jcs D 262)]) (st := []) (k := 0) rfl rfl sX8_is okX8_is g_1 (one41.k g_1) rfl rfl) w (fun v_14 h_12 _ _ w => ?_)
    refine jw_istore (pc' := 46) (ls' := [some (vR 41 r0), some (vI (jfi h 184 r0)), some (vI (jfi h 185 r0)), some (vR 64 (jfr h 186 r0)), some (vI v_14)]) rfl (by decide) rfl ?_
    exact w_X8_isStar_46 w
def T_X8_isStar (D : JD) (d : Nat) (Q : JO → JH → Prop) (r0 : Nat) (h : JH) : Prop := W_X8_isStar_0 D d Q r0 h
theorem t_X8_isStar {D : JD} {d : Nat} {Q : JO → JH → Prop} {r0 : Nat} {h : JH} (w : T_X8_isStar D d Q r0 h) : cX8_isStar D (d + 1) r0 h Q := by
  unfold T_X8_isStar at w
  unfold cX8_isStar
  exact w_X8_isStar_0 w
def W_X8_sourceOf_85 (D : JD) (d : Nat) (Q : JO → JH → Prop) (r1 : Nat) (x2 : Int32) (x3 : Int32) (h : JH) : Prop :=
  r1 ≠ 0 ∧ ((jfr h 289 r1) ≠ 0 ∧ jin x3 (jln h (jfr h 289 r1)) ∧ jbo x2 ∧ ∀ h_5 : JH, h_5 = wai h (jfr h 289 r1) (ixn x3) x2 → (∀ h_7 : JH, h_7 = wfi h_5 290 r1 ((jfi h_5 290 r1) + (1 : Int32)) → (Q (.inl none) h_7)))
theorem w_X8_sourceOf_85 {D : JD} {d : Nat} {Q : JO → JH → Prop} {r1 : Nat} {x2 : Int32} {x3 : Int32} {h : JH} (w : W_X8_sourceOf_85 D d Q r1 x2 x3 h) : JW D (d + 1) mX8_sourceOf 85 [none, some (vR 47 r1), some (vI x2), some (vI x3)] [] h Q := by
  unfold W_X8_sourceOf_85 at w
  refine jw_aload_n (pc' := 86) rfl rfl ?_
  obtain ⟨g_1, w⟩ := w
  refine jw_getR (pc' := 89) (F := 289) (t' := 208) rfl rfl rfl rfl rfl g_1 ?_
  refine jw_iload_n (pc' := 90) rfl rfl ?_
  refine jw_iload_n (pc' := 91) rfl rfl ?_
  obtain ⟨g_2, w⟩ := w
  obtain ⟨g_3, w⟩ := w
  obtain ⟨g_4, w⟩ := w
  refine jw_zast' (pc' := 92) rfl rfl rfl rfl rfl (g_4.nr) g_2 g_3 (fun h_5 e_6 => ?_)
  replace w := w h_5 e_6
  refine jw_aload_n (pc' := 93) rfl rfl ?_
  refine jw_dup (pc' := 94) rfl rfl ?_
  refine jw_getI (pc' := 97) (F := 290) rfl rfl rfl rfl g_1 ?_
  refine jw_iconst (pc' := 98) (x := (1 : Int32)) rfl rfl ?_
  refine jw_iadd (pc' := 99) rfl ?_
  refine jw_putI' (pc' := 102) (F := 290) rfl rfl rfl (Or.inr rfl) (Or.inl rfl) rfl (rfl) (rfl) rfl g_1 (fun h_7 e_8 => ?_)
  replace w := w h_7 e_8
  exact jw_return rfl rfl w
def W_X8_sourceOf_14 (D : JD) (d : Nat) (Q : JO → JH → Prop) (r0 : Nat) (r1 : Nat) (x2 : Int32) (q0 : Nat) (s1 : Int32) (h : JH) : Prop :=
  q0 ≠ 0 ∧ (cX8_can D d q0 s1 h (pV D h (fun h_2 => r1 ≠ 0 ∧ (r0 ≠ 0 ∧ (cX8_name D d r0 h_2 (pR D h_2 64 (fun v_9 h_7 => (jfr h_2 286 r1) ≠ 0 ∧ jin (jfi h_2 290 r1) (jln h_7 (jfr h_2 286 r1)) ∧ ∀ h_12 : JH, h_12 = war h_7 (jfr h_2 286 r1) (ixn (jfi h_2 290 r1)) v_9 → ((jfr h_12 286 r1) ≠ 0 ∧ jin (jfi h_2 290 r1) (jln h_12 (jfr h_12 286 r1)) ∧ ((jfr h_12 287 r1) ≠ 0 ∧ jin (jfi h_2 290 r1) (jln h_12 (jfr h_12 287 r1)) ∧ ∀ h_18 : JH, h_18 = war h_12 (jfr h_12 287 r1) (ixn (jfi h_2 290 r1)) (jar h_12 (jfr h_12 286 r1) (ixn (jfi h_2 290 r1))) → (cX8_take D d r0 (jcs D 284) h_18 (pI D h_18 (fun v_22 h_20 => (v_22 = 0 → (¬ (jfi h_20 183 r0) = (2 : Int32) → W_X8_sourceOf_85 D d Q r1 x2 (jfi h_2 290 r1) h_20) ∧ ((jfi h_20 183 r0) = (2 : Int32) → cX8_name D d r0 h_20 (pR D h_20 64 (fun v_27 h_25 => (jfr h_20 287 r1) ≠ 0 ∧ jin (jfi h_2 290 r1) (jln h_25 (jfr h_20 287 r1)) ∧ ∀ h_30 : JH, h_30 = war h_25 (jfr h_20 287 r1) (ixn (jfi h_2 290 r1)) v_27 → (W_X8_sourceOf_85 D d Q r1 x2 (jfi h_2 290 r1) h_30)) (jth Q)))) ∧ (¬ v_22 = 0 → cX8_name D d r0 h_20 (pR D h_20 64 (fun v_34 h_32 => (jfr h_20 287 r1) ≠ 0 ∧ jin (jfi h_2 290 r1) (jln h_32 (jfr h_20 287 r1)) ∧ ∀ h_37 : JH, h_37 = war h_32 (jfr h_20 287 r1) (ixn (jfi h_2 290 r1)) v_34 → (W_X8_sourceOf_85 D d Q r1 x2 (jfi h_2 290 r1) h_37)) (jth Q)))) (jth Q)))))) (jth Q))))) (jth Q)))
theorem w_X8_sourceOf_14 {D : JD} {d : Nat} {Q : JO → JH → Prop} {r0 : Nat} {r1 : Nat} {x2 : Int32} {q0 : Nat} {s1 : Int32} {h : JH} (w : W_X8_sourceOf_14 D d Q r0 r1 x2 q0 s1 h) : JW D (d + 1) mX8_sourceOf 14 [some (vR 41 r0), some (vR 47 r1), some (vI x2), none] [vI s1, vR 41 q0] h Q := by
  unfold W_X8_sourceOf_14 at w
  obtain ⟨g_1, w⟩ := w
  refine jw_cV (st := []) (sa := [vR 41 q0, vI s1]) okX8_can rfl rfl rfl rfl rfl rfl (jstp_virtual (sa := [vI s1]) (st := []) (k := 0) rfl rfl sX8_can okX8_can g_1 (one41.k g_1) rfl rfl) w (fun h_2 _ _ w => ?_)
  refine jw_aload_n (pc' := 18) rfl rfl ?_
  obtain ⟨g_5, w⟩ := w
  refine jw_getI (pc' := 21) (F := 290) rfl rfl rfl rfl g_5 ?_
  refine jw_istore_n (pc' := 22) (ls' := [some (vR 41 r0), some (vR 47 r1), some (vI x2), some (vI (jfi h_2 290 r1))]) rfl (by decide) rfl ?_
  refine jw_aload_n (pc' := 23) rfl rfl ?_
  refine jw_getR (pc' := 26) (F := 286) (t' := 205) rfl rfl rfl rfl rfl g_5 ?_
  refine jw_iload_n (pc' := 27) rfl rfl ?_
  refine jw_aload_n (pc' := 28) rfl rfl ?_
  obtain ⟨g_6, w⟩ := w
  refine jw_cR (st := [vI (jfi h_2 290 r1), vR 205 (jfr h_2 286 r1)]) (sa := [vR 41 r0]) okX8_name rfl rfl rfl rfl rfl rfl (jstp_virtual (sa := []) (st := [vI (jfi h_2 290 r1), vR 205 (jfr h_2 286 r1)]) (k := 0) rfl rfl sX8_name okX8_name g_6 (one41.k g_6) rfl rfl) w (fun v_9 h_7 _ _ _ w => ?_)
  obtain ⟨g_10, w⟩ := w
  obtain ⟨g_11, w⟩ := w
  refine jw_aast' (pc' := 32) rfl rfl rfl rfl rfl rfl g_10 g_11 (fun h_12 e_13 => ?_)
  replace w := w h_12 e_13
  refine jw_aload_n (pc' := 33) rfl rfl ?_
  refine jw_getR (pc' := 36) (F := 287) (t' := 206) rfl rfl rfl rfl rfl g_5 ?_
  refine jw_iload_n (pc' := 37) rfl rfl ?_
  refine jw_aload_n (pc' := 38) rfl rfl ?_
  refine jw_getR (pc' := 41) (F := 286) (t' := 205) rfl rfl rfl rfl rfl g_5 ?_
  refine jw_iload_n (pc' := 42) rfl rfl ?_
  obtain ⟨g_14, w⟩ := w
  obtain ⟨g_15, w⟩ := w
  refine jw_aald (pc' := 43) (t' := 64) rfl rfl rfl rfl g_14 g_15.ix g_15.2 ?_
  obtain ⟨g_16, w⟩ := w
  obtain ⟨g_17, w⟩ := w
  refine jw_aast' (pc' := 44) rfl rfl rfl rfl rfl rfl g_16 g_17 (fun h_18 e_19 => ?_)
  replace w := w h_18 e_19
  refine jw_aload_n (pc' := 45) rfl rfl ?_
  refine jw_ldcwS (pc' := 48) rfl rfl rfl rfl ?_
  refine jw_cI (st := []) (sa := [vR 41 r0, vR 51 (jcs D 284)]) okX8_take rfl rfl rfl rfl rfl rfl (jstp_virtual (sa := [vR 51 (jcs D 284)]) (st := []) (k := 0) rfl rfl sX8_take okX8_take g_6 (one41.k g_6) rfl rfl) w (fun v_22 h_20 _ _ w => ?_)
  refine jw_if_eq (tgt := 67) (pc' := 54) rfl rfl (fun c_23 => ?_) (fun c_23 => ?_)
  · replace w := w.1 c_23
    refine jw_aload_n (pc' := 68) rfl rfl ?_
    refine jw_getI (pc' := 71) (F := 183) rfl rfl rfl rfl g_6 ?_
    refine jw_iconst (pc' := 72) (x := (2 : Int32)) rfl rfl ?_
    refine jw_icmp_ne (tgt := 85) (pc' := 75) rfl rfl (fun c_24 => ?_) (fun c_24 => ?_)
    · replace w := w.1 c_24
      refine jw_gen (ls' := [none, some (vR 47 r1), some (vI x2), some (vI (jfi h_2 290 r1))]) (st' := []) (And.intro (Or.inl rfl) (And.intro (Or.inl rfl) (And.intro (Or.inl rfl) (trivial)))) (trivial) ?_
      exact w_X8_sourceOf_85 w
    · replace w := w.2 c_24
      refine jw_aload_n (pc' := 76) rfl rfl ?_
      refine jw_getR (pc' := 79) (F := 287) (t' := 206) rfl rfl rfl rfl rfl g_5 ?_
      refine jw_iload_n (pc' := 80) rfl rfl ?_
      refine jw_aload_n (pc' := 81) rfl rfl ?_
      refine jw_cR (st := [vI (jfi h_2 290 r1), vR 206 (jfr h_20 287 r1)]) (sa := [vR 41 r0]) okX8_name rfl rfl rfl rfl rfl rfl (jstp_virtual (sa := []) (st := [vI (jfi h_2 290 r1), vR 206 (jfr h_20 287 r1)]) (k := 0) rfl rfl sX8_name okX8_name g_6 (one41.k g_6) rfl rfl) w (fun v_27 h_25 _ _ _ w => ?_)
      obtain ⟨g_28, w⟩ := w
      obtain ⟨g_29, w⟩ := w
      refine jw_aast' (pc' := 85) rfl rfl rfl rfl rfl rfl g_28 g_29 (fun h_30 e_31 => ?_)
      replace w := w h_30 e_31
      refine jw_gen (ls' := [none, some (vR 47 r1), some (vI x2), some (vI (jfi h_2 290 r1))]) (st' := []) (And.intro (Or.inl rfl) (And.intro (Or.inl rfl) (And.intro (Or.inl rfl) (trivial)))) (trivial) ?_
      exact w_X8_sourceOf_85 w
  · replace w := w.2 c_23
    refine jw_aload_n (pc' := 55) rfl rfl ?_
    refine jw_getR (pc' := 58) (F := 287) (t' := 206) rfl rfl rfl rfl rfl g_5 ?_
    refine jw_iload_n (pc' := 59) rfl rfl ?_
    refine jw_aload_n (pc' := 60) rfl rfl ?_
    refine jw_cR (st := [vI (jfi h_2 290 r1), vR 206 (jfr h_20 287 r1)]) (sa := [vR 41 r0]) okX8_name rfl rfl rfl rfl rfl rfl (jstp_virtual (sa := []) (st := [vI (jfi h_2 290 r1), vR 206 (jfr h_20 287 r1)]) (k := 0) rfl rfl sX8_name okX8_name g_6 (one41.k g_6) rfl rfl) w (fun v_34 h_32 _ _ _ w => ?_)
    obtain ⟨g_35, w⟩ := w
    obtain ⟨g_36, w⟩ := w
    refine jw_aast' (pc' := 64) rfl rfl rfl rfl rfl rfl g_35 g_36 (fun h_37 e_38 => ?_)
    replace w := w h_37 e_38
    refine jw_goto (pc' := 85) rfl rfl ?_
    refine jw_gen (ls' := [none, some (vR 47 r1), some (vI x2), some (vI (jfi h_2 290 r1))]) (st' := []) (And.intro (Or.inl rfl) (And.intro (Or.inl rfl) (And.intro (Or.inl rfl) (trivial)))) (trivial) ?_
    exact w_X8_sourceOf_85 w
def W_X8_sourceOf_0 (D : JD) (d : Nat) (Q : JO → JH → Prop) (r0 : Nat) (r1 : Nat) (x2 : Int32) (h : JH) : Prop :=
  r1 ≠ 0 ∧ (((3 : Int32) ≤ (jfi h 290 r1) → W_X8_sourceOf_14 D d Q r0 r1 x2 r0 (0 : Int32) h) ∧ (¬ (3 : Int32) ≤ (jfi h 290 r1) → W_X8_sourceOf_14 D d Q r0 r1 x2 r0 (1 : Int32) h))
theorem w_X8_sourceOf_0 {D : JD} {d : Nat} {Q : JO → JH → Prop} {r0 : Nat} {r1 : Nat} {x2 : Int32} {h : JH} (w : W_X8_sourceOf_0 D d Q r0 r1 x2 h) : JW D (d + 1) mX8_sourceOf 0 [some (vR 41 r0), some (vR 47 r1), some (vI x2), none] [] h Q := by
  unfold W_X8_sourceOf_0 at w
  refine jw_aload_n (pc' := 1) rfl rfl ?_
  refine jw_aload_n (pc' := 2) rfl rfl ?_
  obtain ⟨g_1, w⟩ := w
  refine jw_getI (pc' := 5) (F := 290) rfl rfl rfl rfl g_1 ?_
  refine jw_iconst (pc' := 6) (x := (3 : Int32)) rfl rfl ?_
  refine jw_icmp_ge (tgt := 13) (pc' := 9) rfl rfl (fun c_2 => ?_) (fun c_2 => ?_)
  · replace w := w.1 c_2
    refine jw_iconst (pc' := 14) (x := (0 : Int32)) rfl rfl ?_
    exact w_X8_sourceOf_14 w
  · replace w := w.2 c_2
    refine jw_iconst (pc' := 10) (x := (1 : Int32)) rfl rfl ?_
    refine jw_goto (pc' := 14) rfl rfl ?_
    exact w_X8_sourceOf_14 w
def T_X8_sourceOf (D : JD) (d : Nat) (Q : JO → JH → Prop) (r0 : Nat) (r1 : Nat) (x2 : Int32) (h : JH) : Prop := W_X8_sourceOf_0 D d Q r0 r1 x2 h
theorem t_X8_sourceOf {D : JD} {d : Nat} {Q : JO → JH → Prop} {r0 : Nat} {r1 : Nat} {x2 : Int32} {h : JH} (w : T_X8_sourceOf D d Q r0 r1 x2 h) : cX8_sourceOf D (d + 1) r0 r1 x2 h Q := by
  unfold T_X8_sourceOf at w
  unfold cX8_sourceOf
  exact w_X8_sourceOf_0 w
def W_X8_empty_0 (D : JD) (d : Nat) (Q : JO → JH → Prop) (r0 : Nat) (x1 : Int32) (h : JH) : Prop :=
  r0 ≠ 0 ∧ (cX8_begin D d r0 x1 h (pV D h (fun h_2 => cX8_close D d r0 h_2 (pV D h_2 (fun h_5 => Q (.inl none) h_5) (jth Q))) (jth Q)))
theorem w_X8_empty_0 {D : JD} {d : Nat} {Q : JO → JH → Prop} {r0 : Nat} {x1 : Int32} {h : JH} (w : W_X8_empty_0 D d Q r0 x1 h) : JW D (d + 1) mX8_empty 0 [some (vR 41 r0), some (vI x1)] [] h Q := by
  unfold W_X8_empty_0 at w
  refine jw_aload_n (pc' := 1) rfl rfl ?_
  refine jw_iload_n (pc' := 2) rfl rfl ?_
  obtain ⟨g_1, w⟩ := w
  refine jw_cV (st := []) (sa := [vR 41 r0, vI x1]) okX8_begin rfl rfl rfl rfl rfl rfl (jstp_virtual (sa := [vI x1]) (st := []) (k := 0) rfl rfl sX8_begin okX8_begin g_1 (one41.k g_1) rfl rfl) w (fun h_2 _ _ w => ?_)
  refine jw_aload_n (pc' := 6) rfl rfl ?_
  refine jw_cV (st := []) (sa := [vR 41 r0]) okX8_close rfl rfl rfl rfl rfl rfl (jstp_virtual (sa := []) (st := []) (k := 0) rfl rfl sX8_close okX8_close g_1 (one41.k g_1) rfl rfl) w (fun h_5 _ _ w => ?_)
  exact jw_return rfl rfl w
def T_X8_empty (D : JD) (d : Nat) (Q : JO → JH → Prop) (r0 : Nat) (x1 : Int32) (h : JH) : Prop := W_X8_empty_0 D d Q r0 x1 h
theorem t_X8_empty {D : JD} {d : Nat} {Q : JO → JH → Prop} {r0 : Nat} {x1 : Int32} {h : JH} (w : T_X8_empty D d Q r0 x1 h) : cX8_empty D (d + 1) r0 x1 h Q := by
  unfold T_X8_empty at w
  unfold cX8_empty
  exact w_X8_empty_0 w
def W_X8_allowed_32 (D : JD) (d : Nat) (Q : JO → JH → Prop) (q0 : Nat) (s1 : Int32) (h : JH) : Prop :=
  q0 ≠ 0 ∧ (cX8_must D d q0 s1 (jcs D 296) h (pV D h (fun h_2 => Q (.inl none) h_2) (jth Q)))
theorem w_X8_allowed_32 {D : JD} {d : Nat} {Q : JO → JH → Prop} {q0 : Nat} {s1 : Int32} {h : JH} (w : W_X8_allowed_32 D d Q q0 s1 h) : JW D (d + 1) mX8_allowed 32 [none, none] [vI s1, vR 41 q0] h Q := by
  unfold W_X8_allowed_32 at w
  refine jw_ldcwS (pc' := 35) rfl rfl rfl rfl ?_
  obtain ⟨g_1, w⟩ := w
  refine jw_cV (st := []) (sa := [vR 41 q0, vI s1, vR 51 (jcs D 296)]) okX8_must rfl rfl rfl rfl rfl rfl (jstp_virtual (sa := [vI s1, vR 51 (jcs D 296)]) (st := []) (k := 0) rfl rfl sX8_must okX8_must g_1 (one41.k g_1) rfl rfl) w (fun h_2 _ _ w => ?_)
  exact jw_return rfl rfl w
def W_X8_allowed_27 (D : JD) (d : Nat) (Q : JO → JH → Prop) (q0 : Nat) (h : JH) : Prop :=
  W_X8_allowed_32 D d Q q0 (1 : Int32) h
theorem w_X8_allowed_27 {D : JD} {d : Nat} {Q : JO → JH → Prop} {q0 : Nat} {h : JH} (w : W_X8_allowed_27 D d Q q0 h) : JW D (d + 1) mX8_allowed 27 [none, none] [vR 41 q0] h Q := by
  unfold W_X8_allowed_27 at w
  refine jw_iconst (pc' := 28) (x := (1 : Int32)) rfl rfl ?_
  refine jw_goto (pc' := 32) rfl rfl ?_
  exact w_X8_allowed_32 w
def W_X8_allowed_0 (D : JD) (d : Nat) (Q : JO → JH → Prop) (r0 : Nat) (r1 : Nat) (h : JH) : Prop :=
  r0 ≠ 0 ∧ ((¬ (jfi h 228 r0) = (4 : Int32) → W_X8_allowed_27 D d Q r0 h) ∧ ((jfi h 228 r0) = (4 : Int32) → r1 ≠ 0 ∧ (((jfi h 270 r1) = (6 : Int32) → W_X8_allowed_27 D d Q r0 h) ∧ (¬ (jfi h 270 r1) = (6 : Int32) → (¬ (jfi h 270 r1) = (7 : Int32) → W_X8_allowed_32 D d Q r0 (0 : Int32) h) ∧ ((jfi h 270 r1) = (7 : Int32) → W_X8_allowed_27 D d Q r0 h)))))
theorem w_X8_allowed_0 {D : JD} {d : Nat} {Q : JO → JH → Prop} {r0 : Nat} {r1 : Nat} {h : JH} (w : W_X8_allowed_0 D d Q r0 r1 h) : JW D (d + 1) mX8_allowed 0 [some (vR 41 r0), some (vR 47 r1)] [] h Q := by
  unfold W_X8_allowed_0 at w
  refine jw_aload_n (pc' := 1) rfl rfl ?_
  refine jw_aload_n (pc' := 2) rfl rfl ?_
  obtain ⟨g_1, w⟩ := w
  refine jw_getI (pc' := 5) (F := 228) rfl rfl rfl rfl g_1 ?_
  refine jw_iconst (pc' := 6) (x := (4 : Int32)) rfl rfl ?_
  refine jw_icmp_ne (tgt := 27) (pc' := 9) rfl rfl (fun c_2 => ?_) (fun c_2 => ?_)
  · replace w := w.1 c_2
    refine jw_gen (ls' := [none, none]) (st' := [vR 41 r0]) (trivial) (And.intro (Or.inl rfl) (trivial)) ?_
    exact w_X8_allowed_27 w
  · replace w := w.2 c_2
    refine jw_aload_n (pc' := 10) rfl rfl ?_
    obtain ⟨g_3, w⟩ := w
    refine jw_getI (pc' := 13) (F := 270) rfl rfl rfl rfl g_3 ?_
    refine jw_bipush (pc' := 15) (x := (6 : Int32)) rfl rfl ?_
    refine jw_icmp_eq (tgt := 27) (pc' := 18) rfl rfl (fun c_4 => ?_) (fun c_4 => ?_)
    · replace w := w.1 c_4
      refine jw_gen (ls' := [none, none]) (st' := [vR 41 r0]) (trivial) (And.intro (Or.inl rfl) (trivial)) ?_
      exact w_X8_allowed_27 w
    · replace w := w.2 c_4
      refine jw_aload_n (pc' := 19) rfl rfl ?_
      refine jw_getI (pc' := 22) (F := 270) rfl rfl rfl rfl g_3 ?_
      refine jw_bipush (pc' := 24) (x := (7 : Int32)) rfl rfl ?_
      refine jw_icmp_ne (tgt := 31) (pc' := 27) rfl rfl (fun c_5 => ?_) (fun c_5 => ?_)
      · replace w := w.1 c_5
        refine jw_iconst (pc' := 32) (x := (0 : Int32)) rfl rfl ?_
        refine jw_gen (ls' := [none, none]) (st' := [vI (0 : Int32), vR 41 r0]) (trivial) (And.intro (Or.inl rfl) (And.intro (Or.inl rfl) (trivial))) ?_
        exact w_X8_allowed_32 w
      · replace w := w.2 c_5
        refine jw_gen (ls' := [none, none]) (st' := [vR 41 r0]) (trivial) (And.intro (Or.inl rfl) (trivial)) ?_
        exact w_X8_allowed_27 w
def T_X8_allowed (D : JD) (d : Nat) (Q : JO → JH → Prop) (r0 : Nat) (r1 : Nat) (h : JH) : Prop := W_X8_allowed_0 D d Q r0 r1 h
theorem t_X8_allowed {D : JD} {d : Nat} {Q : JO → JH → Prop} {r0 : Nat} {r1 : Nat} {h : JH} (w : T_X8_allowed D d Q r0 r1 h) : cX8_allowed D (d + 1) r0 r1 h Q := by
  unfold T_X8_allowed at w
  unfold cX8_allowed
  exact w_X8_allowed_0 w
def W_X8_act_143 (D : JD) (d : Nat) (Q : JO → JH → Prop) (q0 : Nat) (q1 : Nat) (h : JH) : Prop :=
  q0 ≠ 0 ∧ (cX8_tag D d q0 q1 (-1 : Int32) h (pV D h (fun h_2 => Q (.inl none) h_2) (jth Q)))
theorem w_X8_act_143 {D : JD} {d : Nat} {Q : JO → JH → Prop} {q0 : Nat} {q1 : Nat} {h : JH} (w : W_X8_act_143 D d Q q0 q1 h) : JW D (d + 1) mX8_act 143 [none, none, none] [vR 51 q1, vR 41 q0] h Q := by
  unfold W_X8_act_143 at w
  refine jw_iconst (pc' := 144) (x := (-1 : Int32)) rfl rfl ?_
  obtain ⟨g_1, w⟩ := w
  refine jw_cV (st := []) (sa := [vR 41 q0, vR 51 q1, vI (-1 : Int32)]) okX8_tag rfl rfl rfl rfl rfl rfl (jstp_virtual (sa := [vR 51 q1, vI (-1 : Int32)]) (st := []) (k := 0) rfl rfl sX8_tag okX8_tag g_1 (one41.k g_1) rfl rfl) w (fun h_2 _ _ w => ?_)
  exact jw_return rfl rfl w
def W_X8_act_124 (D : JD) (d : Nat) (Q : JO → JH → Prop) (r0 : Nat) (x2 : Int32) (h : JH) : Prop :=
  r0 ≠ 0 ∧ ∀ h_2 : JH, h_2 = wfi h 228 r0 (2 : Int32) → ((x2 = 0 → W_X8_act_143 D d Q r0 (jcs D 299) h_2) ∧ (¬ x2 = 0 → W_X8_act_143 D d Q r0 (jcs D 298) h_2))
theorem w_X8_act_124 {D : JD} {d : Nat} {Q : JO → JH → Prop} {r0 : Nat} {x2 : Int32} {h : JH} (w : W_X8_act_124 D d Q r0 x2 h) : JW D (d + 1) mX8_act 124 [some (vR 41 r0), none, some (vI x2)] [] h Q := by
  unfold W_X8_act_124 at w
  refine jw_aload_n (pc' := 125) rfl rfl ?_
  refine jw_iconst (pc' := 126) (x := (2 : Int32)) rfl rfl ?_
  obtain ⟨g_1, w⟩ := w
  refine jw_putI' (pc' := 129) (F := 228) rfl rfl rfl (Or.inr rfl) (Or.inl rfl) rfl (rfl) (rfl) rfl g_1 (fun h_2 e_3 => ?_)
  replace w := w h_2 e_3
  refine jw_aload_n (pc' := 130) rfl rfl ?_
  refine jw_iload_n (pc' := 131) rfl rfl ?_
  refine jw_if_eq (tgt := 140) (pc' := 134) rfl rfl (fun c_4 => ?_) (fun c_4 => ?_)
  · replace w := w.1 c_4
    refine jw_ldcwS (pc' := 143) rfl rfl rfl rfl ?_
    refine jw_gen (ls' := [none, none, none]) (st' := [vR 51 (jcs D 299), vR 41 r0]) (trivial) (And.intro (Or.inl rfl) (And.intro (Or.inl rfl) (trivial))) ?_
    exact w_X8_act_143 w
  · replace w := w.2 c_4
    refine jw_ldcwS (pc' := 137) rfl rfl rfl rfl ?_
    refine jw_goto (pc' := 143) rfl rfl ?_
    refine jw_gen (ls' := [none, none, none]) (st' := [vR 51 (jcs D 298), vR 41 r0]) (trivial) (And.intro (Or.inl rfl) (And.intro (Or.inl rfl) (trivial))) ?_
    exact w_X8_act_143 w
def W_X8_act_95 (D : JD) (d : Nat) (Q : JO → JH → Prop) (r0 : Nat) (x2 : Int32) (h : JH) : Prop :=
  (x2 = 0 → r0 ≠ 0 ∧ ((jfr h 179 r0) ≠ 0 ∧ (cX10_take D d (jfr h 179 r0) (jfr h 178 r0) h (pV D h (fun h_4 => W_X8_act_124 D d Q r0 x2 h_4) (jth Q))))) ∧ (¬ x2 = 0 → r0 ≠ 0 ∧ ((jfr h 178 r0) ≠ 0 ∧ (cX10_take D d (jfr h 178 r0) (jfr h 179 r0) h (pV D h (fun h_9 => W_X8_act_124 D d Q r0 x2 h_9) (jth Q)))))
theorem w_X8_act_95 {D : JD} {d : Nat} {Q : JO → JH → Prop} {r0 : Nat} {x2 : Int32} {h : JH} (w : W_X8_act_95 D d Q r0 x2 h) : JW D (d + 1) mX8_act 95 [some (vR 41 r0), none, some (vI x2)] [] h Q := by
  unfold W_X8_act_95 at w
  refine jw_iload_n (pc' := 96) rfl rfl ?_
  refine jw_if_eq (tgt := 113) (pc' := 99) rfl rfl (fun c_1 => ?_) (fun c_1 => ?_)
  · replace w := w.1 c_1
    refine jw_aload_n (pc' := 114) rfl rfl ?_
    obtain ⟨g_2, w⟩ := w
    refine jw_getR (pc' := 117) (F := 179) (t' := 117) rfl rfl rfl rfl rfl g_2 ?_
    refine jw_aload_n (pc' := 118) rfl rfl ?_
    refine jw_getR (pc' := 121) (F := 178) (t' := 116) rfl rfl rfl rfl rfl g_2 ?_
    obtain ⟨g_3, w⟩ := w
    refine jw_cV (st := []) (sa := [vR 117 (jfr h 179 r0), vR 116 (jfr h 178 r0)]) okX10_take rfl rfl rfl rfl rfl rfl (jstp_virtual (sa := [vR 116 (jfr h 178 r0)]) (st := []) (k := 0) rfl rfl sX10_take okX10_take g_3 (one117.k g_3) rfl rfl) w (fun h_4 _ _ w => ?_)
    exact w_X8_act_124 w
  · replace w := w.2 c_1
    refine jw_aload_n (pc' := 100) rfl rfl ?_
    obtain ⟨g_7, w⟩ := w
    refine jw_getR (pc' := 103) (F := 178) (t' := 116) rfl rfl rfl rfl rfl g_7 ?_
    refine jw_aload_n (pc' := 104) rfl rfl ?_
    refine jw_getR (pc' := 107) (F := 179) (t' := 117) rfl rfl rfl rfl rfl g_7 ?_
    obtain ⟨g_8, w⟩ := w
    refine jw_cV (st := []) (sa := [vR 116 (jfr h 178 r0), vR 117 (jfr h 179 r0)]) okX10_take rfl rfl rfl rfl rfl rfl (jstp_virtual (sa := [vR 117 (jfr h 179 r0)]) (st := []) (k := 0) rfl rfl sX10_take okX10_take g_8 (one116.k g_8) rfl rfl) w (fun h_9 _ _ w => ?_)
    refine jw_goto (pc' := 124) rfl rfl ?_
    exact w_X8_act_124 w
def W_X8_act_81 (D : JD) (d : Nat) (Q : JO → JH → Prop) (r0 : Nat) (s0 : Int32) (h : JH) : Prop :=
  r0 ≠ 0 ∧ (((jfi h 228 r0) = (2 : Int32) → W_X8_act_95 D d Q r0 s0 h) ∧ (¬ (jfi h 228 r0) = (2 : Int32) → ∀ h_3 : JH, h_3 = wfi h 234 r0 (0 : Int32) → (W_X8_act_95 D d Q r0 s0 h_3)))
theorem w_X8_act_81 {D : JD} {d : Nat} {Q : JO → JH → Prop} {r0 : Nat} {s0 : Int32} {h : JH} (w : W_X8_act_81 D d Q r0 s0 h) : JW D (d + 1) mX8_act 81 [some (vR 41 r0), none, none] [vI s0] h Q := by
  unfold W_X8_act_81 at w
  refine jw_istore_n (pc' := 82) (ls' := [some (vR 41 r0), none, some (vI s0)]) rfl (by decide) rfl ?_
  refine jw_aload_n (pc' := 83) rfl rfl ?_
  obtain ⟨g_1, w⟩ := w
  refine jw_getI (pc' := 86) (F := 228) rfl rfl rfl rfl g_1 ?_
  refine jw_iconst (pc' := 87) (x := (2 : Int32)) rfl rfl ?_
  refine jw_icmp_eq (tgt := 95) (pc' := 90) rfl rfl (fun c_2 => ?_) (fun c_2 => ?_)
  · replace w := w.1 c_2
    exact w_X8_act_95 w
  · replace w := w.2 c_2
    refine jw_aload_n (pc' := 91) rfl rfl ?_
    refine jw_iconst (pc' := 92) (x := (0 : Int32)) rfl rfl ?_
    refine jw_putI' (pc' := 95) (F := 234) rfl rfl rfl (Or.inr rfl) (Or.inl rfl) rfl (rfl) (rfl) rfl g_1 (fun h_3 e_4 => ?_)
    replace w := w h_3 e_4
    exact w_X8_act_95 w
def W_X8_act_76 (D : JD) (d : Nat) (Q : JO → JH → Prop) (r0 : Nat) (h : JH) : Prop :=
  W_X8_act_81 D d Q r0 (1 : Int32) h
theorem w_X8_act_76 {D : JD} {d : Nat} {Q : JO → JH → Prop} {r0 : Nat} {h : JH} (w : W_X8_act_76 D d Q r0 h) : JW D (d + 1) mX8_act 76 [some (vR 41 r0), none, none] [] h Q := by
  unfold W_X8_act_76 at w
  refine jw_iconst (pc' := 77) (x := (1 : Int32)) rfl rfl ?_
  refine jw_goto (pc' := 81) rfl rfl ?_
  exact w_X8_act_81 w
def W_X8_act_59 (D : JD) (d : Nat) (Q : JO → JH → Prop) (r0 : Nat) (r1 : Nat) (h : JH) : Prop :=
  r1 ≠ 0 ∧ (((jfi h 270 r1) = (7 : Int32) → W_X8_act_76 D d Q r0 h) ∧ (¬ (jfi h 270 r1) = (7 : Int32) → r0 ≠ 0 ∧ ((¬ (jfi h 228 r0) = (4 : Int32) → W_X8_act_81 D d Q r0 (0 : Int32) h) ∧ ((jfi h 228 r0) = (4 : Int32) → W_X8_act_76 D d Q r0 h))))
theorem w_X8_act_59 {D : JD} {d : Nat} {Q : JO → JH → Prop} {r0 : Nat} {r1 : Nat} {h : JH} (w : W_X8_act_59 D d Q r0 r1 h) : JW D (d + 1) mX8_act 59 [some (vR 41 r0), some (vR 47 r1), none] [] h Q := by
  unfold W_X8_act_59 at w
  refine jw_aload_n (pc' := 60) rfl rfl ?_
  obtain ⟨g_1, w⟩ := w
  refine jw_getI (pc' := 63) (F := 270) rfl rfl rfl rfl g_1 ?_
  refine jw_bipush (pc' := 65) (x := (7 : Int32)) rfl rfl ?_
  refine jw_icmp_eq (tgt := 76) (pc' := 68) rfl rfl (fun c_2 => ?_) (fun c_2 => ?_)
  · replace w := w.1 c_2
    refine jw_gen (ls' := [some (vR 41 r0), none, none]) (st' := []) (And.intro (Or.inl rfl) (trivial)) (trivial) ?_
    exact w_X8_act_76 w
  · replace w := w.2 c_2
    refine jw_aload_n (pc' := 69) rfl rfl ?_
    obtain ⟨g_3, w⟩ := w
    refine jw_getI (pc' := 72) (F := 228) rfl rfl rfl rfl g_3 ?_
    refine jw_iconst (pc' := 73) (x := (4 : Int32)) rfl rfl ?_
    refine jw_icmp_ne (tgt := 80) (pc' := 76) rfl rfl (fun c_4 => ?_) (fun c_4 => ?_)
    · replace w := w.1 c_4
      refine jw_iconst (pc' := 81) (x := (0 : Int32)) rfl rfl ?_
      refine jw_gen (ls' := [some (vR 41 r0), none, none]) (st' := [vI (0 : Int32)]) (And.intro (Or.inl rfl) (trivial)) (And.intro (Or.inl rfl) (trivial)) ?_
      exact w_X8_act_81 w
    · replace w := w.2 c_4
      refine jw_gen (ls' := [some (vR 41 r0), none, none]) (st' := []) (And.intro (Or.inl rfl) (trivial)) (trivial) ?_
      exact w_X8_act_76 w
def W_X8_act_234 (D : JD) (d : Nat) (Q : JO → JH → Prop) (h : JH) : Prop :=
  Q (.inl none) h
theorem w_X8_act_234 {D : JD} {d : Nat} {Q : JO → JH → Prop} {h : JH} (w : W_X8_act_234 D d Q h) : JW D (d + 1) mX8_act 234 [none, none, none] [] h Q := by
  unfold W_X8_act_234 at w
  exact jw_return rfl rfl w
def W_X8_act_227 (D : JD) (d : Nat) (Q : JO → JH → Prop) (r0 : Nat) (q0 : Nat) (q1 : Nat) (h : JH) : Prop :=
  r0 ≠ 0 ∧ (q0 ≠ 0 ∧ (cX8_tag D d q0 q1 (jfi h 220 r0) h (pV D h (fun h_3 => W_X8_act_234 D d Q h_3) (jth Q))))
theorem w_X8_act_227 {D : JD} {d : Nat} {Q : JO → JH → Prop} {r0 : Nat} {q0 : Nat} {q1 : Nat} {h : JH} (w : W_X8_act_227 D d Q r0 q0 q1 h) : JW D (d + 1) mX8_act 227 [some (vR 41 r0), none, none] [vR 51 q1, vR 41 q0] h Q := by
  unfold W_X8_act_227 at w
  refine jw_aload_n (pc' := 228) rfl rfl ?_
  obtain ⟨g_1, w⟩ := w
  refine jw_getI (pc' := 231) (F := 220) rfl rfl rfl rfl g_1 ?_
  obtain ⟨g_2, w⟩ := w
  refine jw_cV (st := []) (sa := [vR 41 q0, vR 51 q1, vI (jfi h 220 r0)]) okX8_tag rfl rfl rfl rfl rfl rfl (jstp_virtual (sa := [vR 51 q1, vI (jfi h 220 r0)]) (st := []) (k := 0) rfl rfl sX8_tag okX8_tag g_2 (one41.k g_2) rfl rfl) w (fun h_3 _ _ w => ?_)
  refine jw_gen (ls' := [none, none, none]) (st' := []) (trivial) (trivial) ?_
  exact w_X8_act_234 w
def W_X8_act_27 (D : JD) (d : Nat) (Q : JO → JH → Prop) (r0 : Nat) (h : JH) : Prop :=
  r0 ≠ 0 ∧ ∀ h_2 : JH, h_2 = wfi h 228 r0 (3 : Int32) → (cX8_tag D d r0 (jcs D 297) (-1 : Int32) h_2 (pV D h_2 (fun h_4 => Q (.inl none) h_4) (jth Q)))
theorem w_X8_act_27 {D : JD} {d : Nat} {Q : JO → JH → Prop} {r0 : Nat} {h : JH} (w : W_X8_act_27 D d Q r0 h) : JW D (d + 1) mX8_act 27 [some (vR 41 r0), none, none] [] h Q := by
  unfold W_X8_act_27 at w
  refine jw_aload_n (pc' := 28) rfl rfl ?_
  refine jw_iconst (pc' := 29) (x := (3 : Int32)) rfl rfl ?_
  obtain ⟨g_1, w⟩ := w
  refine jw_putI' (pc' := 32) (F := 228) rfl rfl rfl (Or.inr rfl) (Or.inl rfl) rfl (rfl) (rfl) rfl g_1 (fun h_2 e_3 => ?_)
  replace w := w h_2 e_3
  refine jw_aload_n (pc' := 33) rfl rfl ?_
  refine jw_ldcwS (pc' := 36) rfl rfl rfl rfl ?_
  refine jw_iconst (pc' := 37) (x := (-1 : Int32)) rfl rfl ?_
  refine jw_cV (st := []) (sa := [vR 41 r0, vR 51 (jcs D 297), vI (-1 : Int32)]) okX8_tag rfl rfl rfl rfl rfl rfl (jstp_virtual (sa := [vR 51 (jcs D 297), vI (-1 : Int32)]) (st := []) (k := 0) rfl rfl sX8_tag okX8_tag g_1 (one41.k g_1) rfl rfl) w (fun h_4 _ _ w => ?_)
  exact jw_return rfl rfl w
def W_X8_act_0 (D : JD) (d : Nat) (Q : JO → JH → Prop) (r0 : Nat) (r1 : Nat) (h : JH) : Prop :=
  r1 ≠ 0 ∧ ((¬ (jfi h 270 r1) = (5 : Int32) → ((jfi h 270 r1) = (6 : Int32) → W_X8_act_59 D d Q r0 r1 h) ∧ (¬ (jfi h 270 r1) = (6 : Int32) → (¬ (jfi h 270 r1) = (7 : Int32) → r0 ≠ 0 ∧ (cX8_check D d r0 r1 h (pV D h (fun h_6 => cX8_change D d r0 r1 h_6 (pV D h_6 (fun h_9 => (¬ (jfi h_9 270 r1) = 0 → (¬ (jfi h_9 270 r1) = (1 : Int32) → (¬ (jfi h_9 270 r1) = (2 : Int32) → (¬ (jfi h_9 270 r1) = (3 : Int32) → W_X8_act_227 D d Q r0 r0 (jcs D 334) h_9) ∧ ((jfi h_9 270 r1) = (3 : Int32) → W_X8_act_227 D d Q r0 r0 (jcs D 333) h_9)) ∧ ((jfi h_9 270 r1) = (2 : Int32) → W_X8_act_227 D d Q r0 r0 (jcs D 332) h_9)) ∧ ((jfi h_9 270 r1) = (1 : Int32) → cX8_tag D d r0 (jcs D 331) (-1 : Int32) h_9 (pV D h_9 (fun h_16 => W_X8_act_234 D d Q h_16) (jth Q)))) ∧ ((jfi h_9 270 r1) = 0 → cX8_tag D d r0 (jcs D 330) (-1 : Int32) h_9 (pV D h_9 (fun h_19 => W_X8_act_234 D d Q h_19) (jth Q)))) (jth Q))) (jth Q)))) ∧ ((jfi h 270 r1) = (7 : Int32) → W_X8_act_59 D d Q r0 r1 h))) ∧ ((jfi h 270 r1) = (5 : Int32) → r0 ≠ 0 ∧ ((¬ (jfi h 228 r0) = (2 : Int32) → W_X8_act_27 D d Q r0 h) ∧ ((jfi h 228 r0) = (2 : Int32) → (jfr h 179 r0) ≠ 0 ∧ (cX10_take D d (jfr h 179 r0) (jfr h 178 r0) h (pV D h (fun h_25 => W_X8_act_27 D d Q r0 h_25) (jth Q)))))))
theorem w_X8_act_0 {D : JD} {d : Nat} {Q : JO → JH → Prop} {r0 : Nat} {r1 : Nat} {h : JH} (w : W_X8_act_0 D d Q r0 r1 h) : JW D (d + 1) mX8_act 0 [some (vR 41 r0), some (vR 47 r1), none] [] h Q := by
  unfold W_X8_act_0 at w
  refine jw_aload_n (pc' := 1) rfl rfl ?_
  obtain ⟨g_1, w⟩ := w
  refine jw_getI (pc' := 4) (F := 270) rfl rfl rfl rfl g_1 ?_
  refine jw_iconst (pc' := 5) (x := (5 : Int32)) rfl rfl ?_
  refine jw_icmp_ne (tgt := 41) (pc' := 8) rfl rfl (fun c_2 => ?_) (fun c_2 => ?_)
  · replace w := w.1 c_2
    refine jw_aload_n (pc' := 42) rfl rfl ?_
    refine jw_getI (pc' := 45) (F := 270) rfl rfl rfl rfl g_1 ?_
    refine jw_bipush (pc' := 47) (x := (6 : Int32)) rfl rfl ?_
    refine jw_icmp_eq (tgt := 59) (pc' := 50) rfl rfl (fun c_3 => ?_) (fun c_3 => ?_)
    · replace w := w.1 c_3
      exact w_X8_act_59 w
    · replace w := w.2 c_3
      refine jw_aload_n (pc' := 51) rfl rfl ?_
      refine jw_getI (pc' := 54) (F := 270) rfl rfl rfl rfl g_1 ?_
      refine jw_bipush (pc' := 56) (x := (7 : Int32)) rfl rfl ?_
      refine jw_icmp_ne (tgt := 148) (pc' := 59) rfl rfl (fun c_4 => ?_) (fun c_4 => ?_)
      · replace w := w.1 c_4
        refine jw_aload_n (pc' := 149) rfl rfl ?_
        refine jw_aload_n (pc' := 150) rfl rfl ?_
        obtain ⟨g_5, w⟩ := w
        refine jw_cV (st := []) (sa := [vR 41 r0, vR 47 r1]) okX8_check rfl rfl rfl rfl rfl rfl (jstp_virtual (sa := [vR 47 r1]) (st := []) (k := 0) rfl rfl sX8_check okX8_check g_5 (one41.k g_5) rfl rfl) w (fun h_6 _ _ w => ?_)
        refine jw_aload_n (pc' := 154) rfl rfl ?_
        refine jw_aload_n (pc' := 155) rfl rfl ?_
        refine jw_cV (st := []) (sa := [vR 41 r0, vR 47 r1]) okX8_change rfl rfl rfl rfl rfl rfl (jstp_virtual (sa := [vR 47 r1]) (st := []) (k := 0) rfl rfl sX8_change okX8_change g_5 (one41.k g_5) rfl rfl) w (fun h_9 _ _ w => ?_)
        refine jw_aload_n (pc' := 159) rfl rfl ?_
        refine jw_getI (pc' := 162) (F := 270) rfl rfl rfl rfl g_1 ?_
        refine jw_if_ne (tgt := 176) (pc' := 165) rfl rfl (fun c_12 => ?_) (fun c_12 => ?_)
        · replace w := w.1 c_12
          refine jw_aload_n (pc' := 177) rfl rfl ?_
          refine jw_getI (pc' := 180) (F := 270) rfl rfl rfl rfl g_1 ?_
          refine jw_iconst (pc' := 181) (x := (1 : Int32)) rfl rfl ?_
          refine jw_icmp_ne (tgt := 195) (pc' := 184) rfl rfl (fun c_13 => ?_) (fun c_13 => ?_)
          · replace w := w.1 c_13
            refine jw_aload_n (pc' := 196) rfl rfl ?_
            refine jw_aload_n (pc' := 197) rfl rfl ?_
            refine jw_getI (pc' := 200) (F := 270) rfl rfl rfl rfl g_1 ?_
            refine jw_iconst (pc' := 201) (x := (2 : Int32)) rfl rfl ?_
            refine jw_icmp_ne (tgt := 210) (pc' := 204) rfl rfl (fun c_14 => ?_) (fun c_14 => ?_)
            · replace w := w.1 c_14
              refine jw_aload_n (pc' := 211) rfl rfl ?_
              refine jw_getI (pc' := 214) (F := 270) rfl rfl rfl rfl g_1 ?_
              refine jw_iconst (pc' := 215) (x := (3 : Int32)) rfl rfl ?_
              refine jw_icmp_ne (tgt := 224) (pc' := 218) rfl rfl (fun c_15 => ?_) (fun c_15 => ?_)
              · replace w := w.1 c_15
                refine jw_ldcwS (pc' := 227) rfl rfl rfl rfl ?_
                refine jw_gen (ls' := [some (vR 41 r0), none, none]) (st' := [vR 51 (jcs D 334), vR 41 r0]) (And.intro (Or.inl rfl) (trivial)) (And.intro (Or.inl rfl) (And.intro (Or.inl rfl) (trivial))) ?_
                exact w_X8_act_227 w
              · replace w := w.2 c_15
                refine jw_ldcwS (pc' := 221) rfl rfl rfl rfl ?_
                refine jw_goto (pc' := 227) rfl rfl ?_
                refine jw_gen (ls' := [some (vR 41 r0), none, none]) (st' := [vR 51 (jcs D 333), vR 41 r0]) (And.intro (Or.inl rfl) (trivial)) (And.intro (Or.inl rfl) (And.intro (Or.inl rfl) (trivial))) ?_
                exact w_X8_act_227 w
            · replace w := w.2 c_14
              refine jw_ldcwS (pc' := 207) rfl rfl rfl rfl ?_
              refine jw_goto (pc' := 227) rfl rfl ?_
              refine jw_gen (ls' := [some (vR 41 r0), none, none]) (st' := [vR 51 (jcs D 332), vR 41 r0]) (And.intro (Or.inl rfl) (trivial)) (And.intro (Or.inl rfl) (And.intro (Or.inl rfl) (trivial))) ?_
              exact w_X8_act_227 w
          · replace w := w.2 c_13
            refine jw_aload_n (pc' := 185) rfl rfl ?_
            refine jw_ldcwS (pc' := 188) rfl rfl rfl rfl ?_
            refine jw_iconst (pc' := 189) (x := (-1 : Int32)) rfl rfl ?_
            refine jw_cV (st := []) (sa := [vR 41 r0, vR 51 (jcs D 331), vI (-1 : Int32)]) okX8_tag rfl rfl rfl rfl rfl rfl (jstp_virtual (sa := [vR 51 (jcs D 331), vI (-1 : Int32)]) (st := []) (k := 0) rfl rfl sX8_tag okX8_tag g_5 (one41.k g_5) rfl rfl) w (fun h_16 _ _ w => ?_)
            refine jw_goto (pc' := 234) rfl rfl ?_
            refine jw_gen (ls' := [none, none, none]) (st' := []) (trivial) (trivial) ?_
            exact w_X8_act_234 w
        · replace w := w.2 c_12
          refine jw_aload_n (pc' := 166) rfl rfl ?_
          refine jw_ldcwS (pc' := 169) rfl rfl rfl rfl ?_
          refine jw_iconst (pc' := 170) (x := (-1 : Int32)) rfl rfl ?_
          refine jw_cV (st := []) (sa := [vR 41 r0, vR 51 (jcs D 330), vI (-1 : Int32)]) okX8_tag rfl rfl rfl rfl rfl rfl (jstp_virtual (sa := [vR 51 (jcs D 330), vI (-1 : Int32)]) (st := []) (k := 0) rfl rfl sX8_tag okX8_tag g_5 (one41.k g_5) rfl rfl) w (fun h_19 _ _ w => ?_)
          refine jw_goto (pc' := 234) rfl rfl ?_
          refine jw_gen (ls' := [none, none, none]) (st' := []) (trivial) (trivial) ?_
          exact w_X8_act_234 w
      · replace w := w.2 c_4
        exact w_X8_act_59 w
  · replace w := w.2 c_2
    refine jw_aload_n (pc' := 9) rfl rfl ?_
    obtain ⟨g_22, w⟩ := w
    refine jw_getI (pc' := 12) (F := 228) rfl rfl rfl rfl g_22 ?_
    refine jw_iconst (pc' := 13) (x := (2 : Int32)) rfl rfl ?_
    refine jw_icmp_ne (tgt := 27) (pc' := 16) rfl rfl (fun c_23 => ?_) (fun c_23 => ?_)
    · replace w := w.1 c_23
      refine jw_gen (ls' := [some (vR 41 r0), none, none]) (st' := []) (And.intro (Or.inl rfl) (trivial)) (trivial) ?_
      exact w_X8_act_27 w
    · replace w := w.2 c_23
      refine jw_aload_n (pc' := 17) rfl rfl ?_
      refine jw_getR (pc' := 20) (F := 179) (t' := 117) rfl rfl rfl rfl rfl g_22 ?_
      refine jw_aload_n (pc' := 21) rfl rfl ?_
      refine jw_getR (pc' := 24) (F := 178) (t' := 116) rfl rfl rfl rfl rfl g_22 ?_
      obtain ⟨g_24, w⟩ := w
      refine jw_cV (st := []) (sa := [vR 117 (jfr h 179 r0), vR 116 (jfr h 178 r0)]) okX10_take rfl rfl rfl rfl rfl rfl (jstp_virtual (sa := [vR 116 (jfr h 178 r0)]) (st := []) (k := 0) rfl rfl sX10_take okX10_take g_24 (one117.k g_24) rfl rfl) w (fun h_25 _ _ w => ?_)
      refine jw_gen (ls' := [some (vR 41 r0), none, none]) (st' := []) (And.intro (Or.inl rfl) (trivial)) (trivial) ?_
      exact w_X8_act_27 w
def T_X8_act (D : JD) (d : Nat) (Q : JO → JH → Prop) (r0 : Nat) (r1 : Nat) (h : JH) : Prop := W_X8_act_0 D d Q r0 r1 h
theorem t_X8_act {D : JD} {d : Nat} {Q : JO → JH → Prop} {r0 : Nat} {r1 : Nat} {h : JH} (w : T_X8_act D d Q r0 r1 h) : cX8_act D (d + 1) r0 r1 h Q := by
  unfold T_X8_act at w
  unfold cX8_act
  exact w_X8_act_0 w
def W_X8_tag_27 (D : JD) (d : Nat) (Q : JO → JH → Prop) (r0 : Nat) (h : JH) : Prop :=
  r0 ≠ 0 ∧ (cX8_say D d r0 (0 : Int32) h (pV D h (fun h_2 => cX8_close D d r0 h_2 (pV D h_2 (fun h_5 => Q (.inl none) h_5) (jth Q))) (jth Q)))
theorem w_X8_tag_27 {D : JD} {d : Nat} {Q : JO → JH → Prop} {r0 : Nat} {h : JH} (w : W_X8_tag_27 D d Q r0 h) : JW D (d + 1) mX8_tag 27 [some (vR 41 r0), none, none] [] h Q := by
  unfold W_X8_tag_27 at w
  refine jw_aload_n (pc' := 28) rfl rfl ?_
  refine jw_iconst (pc' := 29) (x := (0 : Int32)) rfl rfl ?_
  obtain ⟨g_1, w⟩ := w
  refine jw_cV (st := []) (sa := [vR 41 r0, vI (0 : Int32)]) okX8_say rfl rfl rfl rfl rfl rfl (jstp_virtual (sa := [vI (0 : Int32)]) (st := []) (k := 0) rfl rfl sX8_say okX8_say g_1 (one41.k g_1) rfl rfl) w (fun h_2 _ _ w => ?_)
  refine jw_aload_n (pc' := 33) rfl rfl ?_
  refine jw_cV (st := []) (sa := [vR 41 r0]) okX8_close rfl rfl rfl rfl rfl rfl (jstp_virtual (sa := []) (st := []) (k := 0) rfl rfl sX8_close okX8_close g_1 (one41.k g_1) rfl rfl) w (fun h_5 _ _ w => ?_)
  exact jw_return rfl rfl w
def W_X8_tag_0 (D : JD) (d : Nat) (Q : JO → JH → Prop) (r0 : Nat) (r1 : Nat) (x2 : Int32) (h : JH) : Prop :=
  r0 ≠ 0 ∧ (cX8_begin D d r0 (67 : Int32) h (pV D h (fun h_2 => cX8_text D d r0 r1 h_2 (pV D h_2 (fun h_5 => (x2 < 0 → W_X8_tag_27 D d Q r0 h_5) ∧ (¬ x2 < 0 → cX8_say D d r0 (32 : Int32) h_5 (pV D h_5 (fun h_9 => cX8_spell D d r0 (Int32.toInt64 x2) h_9 (pV D h_9 (fun h_12 => W_X8_tag_27 D d Q r0 h_12) (jth Q))) (jth Q)))) (jth Q))) (jth Q)))
theorem w_X8_tag_0 {D : JD} {d : Nat} {Q : JO → JH → Prop} {r0 : Nat} {r1 : Nat} {x2 : Int32} {h : JH} (w : W_X8_tag_0 D d Q r0 r1 x2 h) : JW D (d + 1) mX8_tag 0 [some (vR 41 r0), some (vR 64 r1), some (vI x2)] [] h Q := by
  unfold W_X8_tag_0 at w
  refine jw_aload_n (pc' := 1) rfl rfl ?_
  refine jw_bipush (pc' := 3) (x := (67 : Int32)) rfl rfl ?_
  obtain ⟨g_1, w⟩ := w
  refine jw_cV (st := []) (sa := [vR 41 r0, vI (67 : Int32)]) okX8_begin rfl rfl rfl rfl rfl rfl (jstp_virtual (sa := [vI (67 : Int32)]) (st := []) (k := 0) rfl rfl sX8_begin okX8_begin g_1 (one41.k g_1) rfl rfl) w (fun h_2 _ _ w => ?_)
  refine jw_aload_n (pc' := 7) rfl rfl ?_
  refine jw_aload_n (pc' := 8) rfl rfl ?_
  refine jw_cV (st := []) (sa := [vR 41 r0, vR 64 r1]) okX8_text rfl rfl rfl rfl rfl rfl (jstp_virtual (sa := [vR 64 r1]) (st := []) (k := 0) rfl rfl sX8_text okX8_text g_1 (one41.k g_1) rfl rfl) w (fun h_5 _ _ w => ?_)
  refine jw_iload_n (pc' := 12) rfl rfl ?_
  refine jw_if_lt (tgt := 27) (pc' := 15) rfl rfl (fun c_8 => ?_) (fun c_8 => ?_)
  · replace w := w.1 c_8
    refine jw_gen (ls' := [some (vR 41 r0), none, none]) (st' := []) (And.intro (Or.inl rfl) (trivial)) (trivial) ?_
    exact w_X8_tag_27 w
  · replace w := w.2 c_8
    refine jw_aload_n (pc' := 16) rfl rfl ?_
    refine jw_bipush (pc' := 18) (x := (32 : Int32)) rfl rfl ?_
    refine jw_cV (st := []) (sa := [vR 41 r0, vI (32 : Int32)]) okX8_say rfl rfl rfl rfl rfl rfl (jstp_virtual (sa := [vI (32 : Int32)]) (st := []) (k := 0) rfl rfl sX8_say okX8_say g_1 (one41.k g_1) rfl rfl) w (fun h_9 _ _ w => ?_)
    refine jw_aload_n (pc' := 22) rfl rfl ?_
    refine jw_iload_n (pc' := 23) rfl rfl ?_
    refine jw_i2l (pc' := 24) rfl ?_
    refine jw_cV (st := []) (sa := [vR 41 r0, vL (Int32.toInt64 x2)]) okX8_spell rfl rfl rfl rfl rfl rfl (jstp_virtual (sa := [vL (Int32.toInt64 x2)]) (st := []) (k := 0) rfl rfl sX8_spell okX8_spell g_1 (one41.k g_1) rfl rfl) w (fun h_12 _ _ w => ?_)
    refine jw_gen (ls' := [some (vR 41 r0), none, none]) (st' := []) (And.intro (Or.inl rfl) (trivial)) (trivial) ?_
    exact w_X8_tag_27 w
def T_X8_tag (D : JD) (d : Nat) (Q : JO → JH → Prop) (r0 : Nat) (r1 : Nat) (x2 : Int32) (h : JH) : Prop := W_X8_tag_0 D d Q r0 r1 x2 h
theorem t_X8_tag {D : JD} {d : Nat} {Q : JO → JH → Prop} {r0 : Nat} {r1 : Nat} {x2 : Int32} {h : JH} (w : T_X8_tag D d Q r0 r1 x2 h) : cX8_tag D (d + 1) r0 r1 x2 h Q := by
  unfold T_X8_tag at w
  unfold cX8_tag
  exact w_X8_tag_0 w
def W_X8_spell_36 (D : JD) (d : Nat) (Q : JO → JH → Prop) (K36 : Nat → Int64 → Int64 → JH → Prop) (r0 : Nat) (y1 : Int64) (y3 : Int64) (h : JH) : Prop :=
  ((lg_cmp y3 (0 : Int64)) ≤ 0 → Q (.inl none) h) ∧ (¬ (lg_cmp y3 (0 : Int64)) ≤ 0 → ¬ y3 = 0 ∧ (cJ15_abs D d ((y1 / y3) - (y1 / y3) / (10 : Int64) * (10 : Int64)) h (pL D h (fun v_4 h_3 => r0 ≠ 0 ∧ (cX8_say D d r0 ((48 : Int32) + (Int64.toInt32 v_4)) h_3 (pV D h_3 (fun h_6 => K36 r0 y1 (y3 / (10 : Int64)) h_6) (jth Q)))) (jth Q))))
theorem w_X8_spell_36 {D : JD} {d : Nat} {Q : JO → JH → Prop} {K36 : Nat → Int64 → Int64 → JH → Prop} {r0 : Nat} {y1 : Int64} {y3 : Int64} {h : JH} (hK36 : ∀ (r0 : Nat) (y1 : Int64) (y3 : Int64) (h : JH), K36 r0 y1 y3 h → JW D (d + 1) mX8_spell 36 [some (vR 41 r0), some (vL y1), none, some (vL y3), none] [] h Q) (w : W_X8_spell_36 D d Q K36 r0 y1 y3 h) : JW D (d + 1) mX8_spell 36 [some (vR 41 r0), some (vL y1), none, some (vL y3), none] [] h Q := by
  unfold W_X8_spell_36 at w
  refine jw_lload_n (pc' := 37) rfl rfl ?_
  refine jw_lconst (pc' := 38) (x := (0 : Int64)) rfl rfl ?_
  refine jw_lcmp (pc' := 39) rfl ?_
  refine jw_if_le (tgt := 69) (pc' := 42) rfl rfl (fun c_1 => ?_) (fun c_1 => ?_)
  · replace w := w.1 c_1
    exact jw_return rfl rfl w
  · replace w := w.2 c_1
    refine jw_aload_n (pc' := 43) rfl rfl ?_
    refine jw_bipush (pc' := 45) (x := (48 : Int32)) rfl rfl ?_
    refine jw_lload_n (pc' := 46) rfl rfl ?_
    refine jw_lload_n (pc' := 47) rfl rfl ?_
    obtain ⟨g_2, w⟩ := w
    refine jw_ldiv (pc' := 48) rfl g_2 ?_
    refine jw_ldc2 (pc' := 51) (v := (10 : Int64)) rfl rfl ?_
    refine jw_lrem (pc' := 52) rfl (by decide) ?_
    refine jw_cL (st := [vI (48 : Int32), vR 41 r0]) (sa := [vL ((y1 / y3) - (y1 / y3) / (10 : Int64) * (10 : Int64))]) okJ15_abs rfl rfl rfl rfl rfl rfl (jstp_static (sa := [vL ((y1 / y3) - (y1 / y3) / (10 : Int64) * (10 : Int64))]) (st := [vI (48 : Int32), vR 41 r0]) rfl rfl sJ15_abs okJ15_abs rfl rfl) w (fun v_4 h_3 _ _ w => ?_)
    refine jw_l2i (pc' := 56) rfl ?_
    refine jw_iadd (pc' := 57) rfl ?_
    obtain ⟨g_5, w⟩ := w
    refine jw_cV (st := []) (sa := [vR 41 r0, vI ((48 : Int32) + (Int64.toInt32 v_4))]) okX8_say rfl rfl rfl rfl rfl rfl (jstp_virtual (sa := [vI ((48 : Int32) + (Int64.toInt32 v_4))]) (st := []) (k := 0) rfl rfl sX8_say okX8_say g_5 (one41.k g_5) rfl rfl) w (fun h_6 _ _ w => ?_)
    refine jw_lload_n (pc' := 61) rfl rfl ?_
    refine jw_ldc2 (pc' := 64) (v := (10 : Int64)) rfl rfl ?_
    refine jw_ldiv (pc' := 65) rfl (by decide) ?_
    refine jw_lstore_n (pc' := 66) (ls' := [some (vR 41 r0), some (vL y1), none, some (vL (y3 / (10 : Int64))), none]) rfl (by decide) rfl ?_
    refine jw_goto (pc' := 36) rfl rfl ?_
    exact hK36 _ _ _ _ w
def L_X8_spell_36 (D : JD) (d : Nat) (Q : JO → JH → Prop) : Nat → Nat → Int64 → Int64 → JH → Prop
  | 0 => fun _ _ _ _ => False
  | n + 1 => fun r0 y1 y3 h => W_X8_spell_36 D d Q (L_X8_spell_36 D d Q n) r0 y1 y3 h
theorem l_X8_spell_36 {D : JD} {d : Nat} {Q : JO → JH → Prop} : ∀ (n : Nat) (r0 : Nat) (y1 : Int64) (y3 : Int64) (h : JH), L_X8_spell_36 D d Q n r0 y1 y3 h → JW D (d + 1) mX8_spell 36 [some (vR 41 r0), some (vL y1), none, some (vL y3), none] [] h Q := by
  intro n
  induction n with
  | zero => intro _ _ _ _ w; exact w.elim
  | succ n ih => intro _ _ _ h w; exact w_X8_spell_36 ih w
def W_X8_spell_14 (D : JD) (d : Nat) (Q : JO → JH → Prop) (K14 : Nat → Int64 → Int64 → JH → Prop) (r0 : Nat) (y1 : Int64) (y3 : Int64) (h : JH) : Prop :=
  ¬ y3 = 0 ∧ (cJ15_abs D d (y1 / y3) h (pL D h (fun v_3 h_2 => ((lg_cmp v_3 (10 : Int64)) < 0 → ∃ n, L_X8_spell_36 D d Q n r0 y1 y3 h_2) ∧ (¬ (lg_cmp v_3 (10 : Int64)) < 0 → K14 r0 y1 (y3 * (10 : Int64)) h_2)) (jth Q)))
theorem w_X8_spell_14 {D : JD} {d : Nat} {Q : JO → JH → Prop} {K14 : Nat → Int64 → Int64 → JH → Prop} {r0 : Nat} {y1 : Int64} {y3 : Int64} {h : JH} (hK14 : ∀ (r0 : Nat) (y1 : Int64) (y3 : Int64) (h : JH), K14 r0 y1 y3 h → JW D (d + 1) mX8_spell 14 [some (vR 41 r0), some (vL y1), none, some (vL y3), none] [] h Q) (w : W_X8_spell_14 D d Q K14 r0 y1 y3 h) : JW D (d + 1) mX8_spell 14 [some (vR 41 r0), some (vL y1), none, some (vL y3), none] [] h Q := by
  unfold W_X8_spell_14 at w
  refine jw_lload_n (pc' := 15) rfl rfl ?_
  refine jw_lload_n (pc' := 16) rfl rfl ?_
  obtain ⟨g_1, w⟩ := w
  refine jw_ldiv (pc' := 17) rfl g_1 ?_
  refine jw_cL (st := []) (sa := [vL (y1 / y3)]) okJ15_abs rfl rfl rfl rfl rfl rfl (jstp_static (sa := [vL (y1 / y3)]) (st := []) rfl rfl sJ15_abs okJ15_abs rfl rfl) w (fun v_3 h_2 _ _ w => ?_)
  refine jw_ldc2 (pc' := 23) (v := (10 : Int64)) rfl rfl ?_
  refine jw_lcmp (pc' := 24) rfl ?_
  refine jw_if_lt (tgt := 36) (pc' := 27) rfl rfl (fun c_4 => ?_) (fun c_4 => ?_)
  · replace w := w.1 c_4
    obtain ⟨n, w⟩ := w
    exact l_X8_spell_36 n _ _ _ _ w
  · replace w := w.2 c_4
    refine jw_lload_n (pc' := 28) rfl rfl ?_
    refine jw_ldc2 (pc' := 31) (v := (10 : Int64)) rfl rfl ?_
    refine jw_lmul (pc' := 32) rfl ?_
    refine jw_lstore_n (pc' := 33) (ls' := [some (vR 41 r0), some (vL y1), none, some (vL (y3 * (10 : Int64))), none]) rfl (by decide) rfl ?_
    refine jw_goto (pc' := 14) rfl rfl ?_
    exact hK14 _ _ _ _ w
def L_X8_spell_14 (D : JD) (d : Nat) (Q : JO → JH → Prop) : Nat → Nat → Int64 → Int64 → JH → Prop
  | 0 => fun _ _ _ _ => False
  | n + 1 => fun r0 y1 y3 h => W_X8_spell_14 D d Q (L_X8_spell_14 D d Q n) r0 y1 y3 h
theorem l_X8_spell_14 {D : JD} {d : Nat} {Q : JO → JH → Prop} : ∀ (n : Nat) (r0 : Nat) (y1 : Int64) (y3 : Int64) (h : JH), L_X8_spell_14 D d Q n r0 y1 y3 h → JW D (d + 1) mX8_spell 14 [some (vR 41 r0), some (vL y1), none, some (vL y3), none] [] h Q := by
  intro n
  induction n with
  | zero => intro _ _ _ _ w; exact w.elim
  | succ n ih => intro _ _ _ h w; exact w_X8_spell_14 ih w
def W_X8_spell_12 (D : JD) (d : Nat) (Q : JO → JH → Prop) (r0 : Nat) (y1 : Int64) (h : JH) : Prop :=
  ∃ n, L_X8_spell_14 D d Q n r0 y1 (1 : Int64) h
theorem w_X8_spell_12 {D : JD} {d : Nat} {Q : JO → JH → Prop} {r0 : Nat} {y1 : Int64} {h : JH} (w : W_X8_spell_12 D d Q r0 y1 h) : JW D (d + 1) mX8_spell 12 [some (vR 41 r0), some (vL y1), none, none, none] [] h Q := by
  unfold W_X8_spell_12 at w
  refine jw_lconst (pc' := 13) (x := (1 : Int64)) rfl rfl ?_
  refine jw_lstore_n (pc' := 14) (ls' := [some (vR 41 r0), some (vL y1), none, some (vL (1 : Int64)), none]) rfl (by decide) rfl ?_
  obtain ⟨n, w⟩ := w
  exact l_X8_spell_14 n _ _ _ _ w
def W_X8_spell_0 (D : JD) (d : Nat) (Q : JO → JH → Prop) (r0 : Nat) (y1 : Int64) (h : JH) : Prop :=
  (0 ≤ (lg_cmp y1 (0 : Int64)) → W_X8_spell_12 D d Q r0 y1 h) ∧ (¬ 0 ≤ (lg_cmp y1 (0 : Int64)) → r0 ≠ 0 ∧ (cX8_say D d r0 (45 : Int32) h (pV D h (fun h_3 => W_X8_spell_12 D d Q r0 y1 h_3) (jth Q))))
theorem w_X8_spell_0 {D : JD} {d : Nat} {Q : JO → JH → Prop} {r0 : Nat} {y1 : Int64} {h : JH} (w : W_X8_spell_0 D d Q r0 y1 h) : JW D (d + 1) mX8_spell 0 [some (vR 41 r0), some (vL y1), none, none, none] [] h Q := by
  unfold W_X8_spell_0 at w
  refine jw_lload_n (pc' := 1) rfl rfl ?_
  refine jw_lconst (pc' := 2) (x := (0 : Int64)) rfl rfl ?_
  refine jw_lcmp (pc' := 3) rfl ?_
  refine jw_if_ge (tgt := 12) (pc' := 6) rfl rfl (fun c_1 => ?_) (fun c_1 => ?_)
  · replace w := w.1 c_1
    exact w_X8_spell_12 w
  · replace w := w.2 c_1
    refine jw_aload_n (pc' := 7) rfl rfl ?_
    refine jw_bipush (pc' := 9) (x := (45 : Int32)) rfl rfl ?_
    obtain ⟨g_2, w⟩ := w
    refine jw_cV (st := []) (sa := [vR 41 r0, vI (45 : Int32)]) okX8_say rfl rfl rfl rfl rfl rfl (jstp_virtual (sa := [vI (45 : Int32)]) (st := []) (k := 0) rfl rfl sX8_say okX8_say g_2 (one41.k g_2) rfl rfl) w (fun h_3 _ _ w => ?_)
    exact w_X8_spell_12 w
def T_X8_spell (D : JD) (d : Nat) (Q : JO → JH → Prop) (r0 : Nat) (y1 : Int64) (h : JH) : Prop := W_X8_spell_0 D d Q r0 y1 h
theorem t_X8_spell {D : JD} {d : Nat} {Q : JO → JH → Prop} {r0 : Nat} {y1 : Int64} {h : JH} (w : T_X8_spell D d Q r0 y1 h) : cX8_spell D (d + 1) r0 y1 h Q := by
  unfold T_X8_spell at w
  unfold cX8_spell
  exact w_X8_spell_0 w
def W_X8_check_303 (D : JD) (d : Nat) (Q : JO → JH → Prop) (h : JH) : Prop :=
  Q (.inl none) h
theorem w_X8_check_303 {D : JD} {d : Nat} {Q : JO → JH → Prop} {h : JH} (w : W_X8_check_303 D d Q h) : JW D (d + 1) mX8_check 303 [none, none, none, none] [] h Q := by
  unfold W_X8_check_303 at w
  exact jw_return rfl rfl w
def W_X8_check_178 (D : JD) (d : Nat) (Q : JO → JH → Prop) (q0 : Nat) (s1 : Int32) (h : JH) : Prop :=
  q0 ≠ 0 ∧ (cX8_must D d q0 s1 (jcs D 302) h (pV D h (fun h_2 => W_X8_check_303 D d Q h_2) (jth Q)))
theorem w_X8_check_178 {D : JD} {d : Nat} {Q : JO → JH → Prop} {q0 : Nat} {s1 : Int32} {h : JH} (w : W_X8_check_178 D d Q q0 s1 h) : JW D (d + 1) mX8_check 178 [none, none, none, none] [vI s1, vR 41 q0] h Q := by
  unfold W_X8_check_178 at w
  refine jw_ldcwS (pc' := 181) rfl rfl rfl rfl ?_
  obtain ⟨g_1, w⟩ := w
  refine jw_cV (st := []) (sa := [vR 41 q0, vI s1, vR 51 (jcs D 302)]) okX8_must rfl rfl rfl rfl rfl rfl (jstp_virtual (sa := [vI s1, vR 51 (jcs D 302)]) (st := []) (k := 0) rfl rfl sX8_must okX8_must g_1 (one41.k g_1) rfl rfl) w (fun h_2 _ _ w => ?_)
  refine jw_goto (pc' := 303) rfl rfl ?_
  exact w_X8_check_303 w
def W_X8_check_143 (D : JD) (d : Nat) (Q : JO → JH → Prop) (K104 : Nat → Nat → Int32 → JH → Prop) (K114 : Nat → Nat → Int32 → Int32 → JH → Prop) (r0 : Nat) (r1 : Nat) (x2 : Int32) (x3 : Int32) (q0 : Nat) (s1 : Int32) (h : JH) : Prop :=
  q0 ≠ 0 ∧ (cX8_must D d q0 s1 (jcs D 301) h (pV D h (fun h_2 => K114 r0 r1 x2 (x3 + (1 : Int32)) h_2) (jth Q)))
theorem w_X8_check_143 {D : JD} {d : Nat} {Q : JO → JH → Prop} {K104 : Nat → Nat → Int32 → JH → Prop} {K114 : Nat → Nat → Int32 → Int32 → JH → Prop} {r0 : Nat} {r1 : Nat} {x2 : Int32} {x3 : Int32} {q0 : Nat} {s1 : Int32} {h : JH} (hK104 : ∀ (r0 : Nat) (r1 : Nat) (x2 : Int32) (h : JH), K104 r0 r1 x2 h → JW D (d + 1) mX8_check 104 [some (vR 41 r0), some (vR 47 r1), some (vI x2), none] [] h Q) (hK114 : ∀ (r0 : Nat) (r1 : Nat) (x2 : Int32) (x3 : Int32) (h : JH), K114 r0 r1 x2 x3 h → JW D (d + 1) mX8_check 114 [some (vR 41 r0), some (vR 47 r1), some (vI x2), some (vI x3)] [] h Q) (w : W_X8_check_143 D d Q K104 K114 r0 r1 x2 x3 q0 s1 h) : JW D (d + 1) mX8_check 143 [some (vR 41 r0), some (vR 47 r1), some (vI x2), some (vI x3)] [vI s1, vR 41 q0] h Q := by
  unfold W_X8_check_143 at w
  refine jw_ldcwS (pc' := 146) rfl rfl rfl rfl ?_
  obtain ⟨g_1, w⟩ := w
  refine jw_cV (st := []) (sa := [vR 41 q0, vI s1, vR 51 (jcs D 301)]) okX8_must rfl rfl rfl rfl rfl rfl (jstp_virtual (sa := [vI s1, vR 51 (jcs D 301)]) (st := []) (k := 0) rfl rfl sX8_must okX8_must g_1 (one41.k g_1) rfl rfl) w (fun h_2 _ _ w => ?_)
  refine jw_iinc (pc' := 152) (y := x3 + (1 : Int32)) (ls' := [some (vR 41 r0), some (vR 47 r1), some (vI x2), some (vI (x3 + (1 : Int32)))]) rfl (by decide) rfl rfl rfl ?_
  refine jw_goto (pc' := 114) rfl rfl ?_
  exact hK114 _ _ _ _ _ w
def W_X8_check_114 (D : JD) (d : Nat) (Q : JO → JH → Prop) (K104 : Nat → Nat → Int32 → JH → Prop) (K114 : Nat → Nat → Int32 → Int32 → JH → Prop) (r0 : Nat) (r1 : Nat) (x2 : Int32) (x3 : Int32) (h : JH) : Prop :=
  (x2 ≤ x3 → K104 r0 r1 (x2 + (1 : Int32)) h) ∧ (¬ x2 ≤ x3 → r1 ≠ 0 ∧ ((jfr h 272 r1) ≠ 0 ∧ jin x2 (jln h (jfr h 272 r1)) ∧ (jin x3 (jln h (jfr h 272 r1)) ∧ ((jar h (jfr h 272 r1) (ixn x2)) ≠ 0 ∧ (cJ5_equals D d (jar h (jfr h 272 r1) (ixn x2)) (jar h (jfr h 272 r1) (ixn x3)) h (pI D h (fun v_9 h_7 => (¬ v_9 = 0 → W_X8_check_143 D d Q K104 K114 r0 r1 x2 x3 r0 (0 : Int32) h_7) ∧ (v_9 = 0 → W_X8_check_143 D d Q K104 K114 r0 r1 x2 x3 r0 (1 : Int32) h_7)) (jth Q)))))))
theorem w_X8_check_114 {D : JD} {d : Nat} {Q : JO → JH → Prop} {K104 : Nat → Nat → Int32 → JH → Prop} {K114 : Nat → Nat → Int32 → Int32 → JH → Prop} {r0 : Nat} {r1 : Nat} {x2 : Int32} {x3 : Int32} {h : JH} (hK104 : ∀ (r0 : Nat) (r1 : Nat) (x2 : Int32) (h : JH), K104 r0 r1 x2 h → JW D (d + 1) mX8_check 104 [some (vR 41 r0), some (vR 47 r1), some (vI x2), none] [] h Q) (hK114 : ∀ (r0 : Nat) (r1 : Nat) (x2 : Int32) (x3 : Int32) (h : JH), K114 r0 r1 x2 x3 h → JW D (d + 1) mX8_check 114 [some (vR 41 r0), some (vR 47 r1), some (vI x2), some (vI x3)] [] h Q) (w : W_X8_check_114 D d Q K104 K114 r0 r1 x2 x3 h) : JW D (d + 1) mX8_check 114 [some (vR 41 r0), some (vR 47 r1), some (vI x2), some (vI x3)] [] h Q := by
  unfold W_X8_check_114 at w
  refine jw_iload_n (pc' := 115) rfl rfl ?_
  refine jw_iload_n (pc' := 116) rfl rfl ?_
  refine jw_icmp_ge (tgt := 155) (pc' := 119) rfl rfl (fun c_1 => ?_) (fun c_1 => ?_)
  · replace w := w.1 c_1
    refine jw_iinc (pc' := 158) (y := x2 + (1 : Int32)) (ls' := [some (vR 41 r0), some (vR 47 r1), some (vI (x2 + (1 : Int32))), some (vI x3)]) rfl (by decide) rfl rfl rfl ?_
    refine jw_goto (pc' := 104) rfl rfl ?_
    refine jw_gen (ls' := [some (vR 41 r0), some (vR 47 r1), some (vI (x2 + (1 : Int32))), none]) (st' := []) (And.intro (Or.inl rfl) (And.intro (Or.inl rfl) (And.intro (Or.inl rfl) (trivial)))) (trivial) ?_
    exact hK104 _ _ _ _ w
  · replace w := w.2 c_1
    refine jw_aload_n (pc' := 120) rfl rfl ?_
    refine jw_aload_n (pc' := 121) rfl rfl ?_
    obtain ⟨g_2, w⟩ := w
    refine jw_getR (pc' := 124) (F := 272) (t' := 198) rfl rfl rfl rfl rfl g_2 ?_
    refine jw_iload_n (pc' := 125) rfl rfl ?_
    obtain ⟨g_3, w⟩ := w
    obtain ⟨g_4, w⟩ := w
    refine jw_aald (pc' := 126) (t' := 64) rfl rfl rfl rfl g_3 g_4.ix g_4.2 ?_
    refine jw_aload_n (pc' := 127) rfl rfl ?_
    refine jw_getR (pc' := 130) (F := 272) (t' := 198) rfl rfl rfl rfl rfl g_2 ?_
    refine jw_iload_n (pc' := 131) rfl rfl ?_
    obtain ⟨g_5, w⟩ := w
    refine jw_aald (pc' := 132) (t' := 64) rfl rfl rfl rfl g_3 g_5.ix g_5.2 ?_
    obtain ⟨g_6, w⟩ := w
    refine jw_cI (st := [vR 41 r0]) (sa := [vR 64 (jar h (jfr h 272 r1) (ixn x2)), vR 64 (jar h (jfr h 272 r1) (ixn x3))]) okJ5_equals rfl rfl rfl rfl rfl rfl (jstp_virtual (sa := [vR 64 (jar h (jfr h 272 r1) (ixn x3))]) (st := [vR 41 r0]) (k := 0) rfl rfl sJ5_equals okJ5_equals g_6 (one64.k g_6) rfl rfl) w (fun v_9 h_7 _ _ w => ?_)
    refine jw_if_ne (tgt := 142) (pc' := 138) rfl rfl (fun c_10 => ?_) (fun c_10 => ?_)
    · replace w := w.1 c_10
      refine jw_iconst (pc' := 143) (x := (0 : Int32)) rfl rfl ?_
      exact w_X8_check_143 hK104 hK114 w
    · replace w := w.2 c_10
      refine jw_iconst (pc' := 139) (x := (1 : Int32)) rfl rfl ?_
      refine jw_goto (pc' := 143) rfl rfl ?_
      exact w_X8_check_143 hK104 hK114 w
def L_X8_check_114 (D : JD) (d : Nat) (Q : JO → JH → Prop) (K104 : Nat → Nat → Int32 → JH → Prop) : Nat → Nat → Nat → Int32 → Int32 → JH → Prop
  | 0 => fun _ _ _ _ _ => False
  | n + 1 => fun r0 r1 x2 x3 h => W_X8_check_114 D d Q K104 (L_X8_check_114 D d Q K104 n) r0 r1 x2 x3 h
theorem l_X8_check_114 {D : JD} {d : Nat} {Q : JO → JH → Prop} {K104 : Nat → Nat → Int32 → JH → Prop} (hK104 : ∀ (r0 : Nat) (r1 : Nat) (x2 : Int32) (h : JH), K104 r0 r1 x2 h → JW D (d + 1) mX8_check 104 [some (vR 41 r0), some (vR 47 r1), some (vI x2), none] [] h Q) : ∀ (n : Nat) (r0 : Nat) (r1 : Nat) (x2 : Int32) (x3 : Int32) (h : JH), L_X8_check_114 D d Q K104 n r0 r1 x2 x3 h → JW D (d + 1) mX8_check 114 [some (vR 41 r0), some (vR 47 r1), some (vI x2), some (vI x3)] [] h Q := by
  intro n
  induction n with
  | zero => intro _ _ _ _ _ w; exact w.elim
  | succ n ih => intro _ _ _ _ h w; exact w_X8_check_114 hK104 ih w
def W_X8_check_104 (D : JD) (d : Nat) (Q : JO → JH → Prop) (K104 : Nat → Nat → Int32 → JH → Prop) (r0 : Nat) (r1 : Nat) (x2 : Int32) (h : JH) : Prop :=
  r1 ≠ 0 ∧ (((jfi h 273 r1) ≤ x2 → r0 ≠ 0 ∧ ((jfr h 178 r0) ≠ 0 ∧ (((4 : Int32) ≤ (jfi h 247 (jfr h 178 r0)) → W_X8_check_178 D d Q r0 (0 : Int32) h) ∧ (¬ (4 : Int32) ≤ (jfi h 247 (jfr h 178 r0)) → W_X8_check_178 D d Q r0 (1 : Int32) h)))) ∧ (¬ (jfi h 273 r1) ≤ x2 → ∃ n, L_X8_check_114 D d Q K104 n r0 r1 x2 (0 : Int32) h))
theorem w_X8_check_104 {D : JD} {d : Nat} {Q : JO → JH → Prop} {K104 : Nat → Nat → Int32 → JH → Prop} {r0 : Nat} {r1 : Nat} {x2 : Int32} {h : JH} (hK104 : ∀ (r0 : Nat) (r1 : Nat) (x2 : Int32) (h : JH), K104 r0 r1 x2 h → JW D (d + 1) mX8_check 104 [some (vR 41 r0), some (vR 47 r1), some (vI x2), none] [] h Q) (w : W_X8_check_104 D d Q K104 r0 r1 x2 h) : JW D (d + 1) mX8_check 104 [some (vR 41 r0), some (vR 47 r1), some (vI x2), none] [] h Q := by
  unfold W_X8_check_104 at w
  refine jw_iload_n (pc' := 105) rfl rfl ?_
  refine jw_aload_n (pc' := 106) rfl rfl ?_
  obtain ⟨g_1, w⟩ := w
  refine jw_getI (pc' := 109) (F := 273) rfl rfl rfl rfl g_1 ?_
  refine jw_icmp_ge (tgt := 161) (pc' := 112) rfl rfl (fun c_2 => ?_) (fun c_2 => ?_)
  · replace w := w.1 c_2
    refine jw_aload_n (pc' := 162) rfl rfl ?_
    refine jw_aload_n (pc' := 163) rfl rfl ?_
    obtain ⟨g_3, w⟩ := w
    refine jw_getR (pc' := 166) (F := 178) (t' := 116) rfl rfl rfl rfl rfl g_3 ?_
    obtain ⟨g_4, w⟩ := w
    refine jw_getI (pc' := 169) (F := 247) rfl rfl rfl rfl g_4 ?_
    refine jw_iconst (pc' := 170) (x := (4 : Int32)) rfl rfl ?_
    refine jw_icmp_ge (tgt := 177) (pc' := 173) rfl rfl (fun c_5 => ?_) (fun c_5 => ?_)
    · replace w := w.1 c_5
      refine jw_iconst (pc' := 178) (x := (0 : Int32)) rfl rfl ?_
      refine jw_gen (ls' := [none, none, none, none]) (st' := [vI (0 : Int32), vR 41 r0]) (trivial) (And.intro (Or.inl rfl) (And.intro (Or.inl rfl) (trivial))) ?_
      exact w_X8_check_178 w
    · replace w := w.2 c_5
      refine jw_iconst (pc' := 174) (x := (1 : Int32)) rfl rfl ?_
      refine jw_goto (pc' := 178) rfl rfl ?_
      refine jw_gen (ls' := [none, none, none, none]) (st' := [vI (1 : Int32), vR 41 r0]) (trivial) (And.intro (Or.inl rfl) (And.intro (Or.inl rfl) (trivial))) ?_
      exact w_X8_check_178 w
  · replace w := w.2 c_2
    refine jw_iconst (pc' := 113) (x := (0 : Int32)) rfl rfl ?_
    refine jw_istore_n (pc' := 114) (ls' := [some (vR 41 r0), some (vR 47 r1), some (vI x2), some (vI (0 : Int32))]) rfl (by decide) rfl ?_
    obtain ⟨n, w⟩ := w
    exact l_X8_check_114 hK104 n _ _ _ _ _ w
def L_X8_check_104 (D : JD) (d : Nat) (Q : JO → JH → Prop) : Nat → Nat → Nat → Int32 → JH → Prop
  | 0 => fun _ _ _ _ => False
  | n + 1 => fun r0 r1 x2 h => W_X8_check_104 D d Q (L_X8_check_104 D d Q n) r0 r1 x2 h
theorem l_X8_check_104 {D : JD} {d : Nat} {Q : JO → JH → Prop} : ∀ (n : Nat) (r0 : Nat) (r1 : Nat) (x2 : Int32) (h : JH), L_X8_check_104 D d Q n r0 r1 x2 h → JW D (d + 1) mX8_check 104 [some (vR 41 r0), some (vR 47 r1), some (vI x2), none] [] h Q := by
  intro n
  induction n with
  | zero => intro _ _ _ _ w; exact w.elim
  | succ n ih => intro _ _ _ h w; exact w_X8_check_104 ih w
def W_X8_check_96 (D : JD) (d : Nat) (Q : JO → JH → Prop) (r0 : Nat) (r1 : Nat) (q0 : Nat) (s1 : Int32) (h : JH) : Prop :=
  q0 ≠ 0 ∧ (cX8_must D d q0 s1 (jcs D 300) h (pV D h (fun h_2 => ∃ n, L_X8_check_104 D d Q n r0 r1 (0 : Int32) h_2) (jth Q)))
theorem w_X8_check_96 {D : JD} {d : Nat} {Q : JO → JH → Prop} {r0 : Nat} {r1 : Nat} {q0 : Nat} {s1 : Int32} {h : JH} (w : W_X8_check_96 D d Q r0 r1 q0 s1 h) : JW D (d + 1) mX8_check 96 [some (vR 41 r0), some (vR 47 r1), none, none] [vI s1, vR 41 q0] h Q := by
  unfold W_X8_check_96 at w
  refine jw_ldcwS (pc' := 99) rfl rfl rfl rfl ?_
  obtain ⟨g_1, w⟩ := w
  refine jw_cV (st := []) (sa := [vR 41 q0, vI s1, vR 51 (jcs D 300)]) okX8_must rfl rfl rfl rfl rfl rfl (jstp_virtual (sa := [vI s1, vR 51 (jcs D 300)]) (st := []) (k := 0) rfl rfl sX8_must okX8_must g_1 (one41.k g_1) rfl rfl) w (fun h_2 _ _ w => ?_)
  refine jw_iconst (pc' := 103) (x := (0 : Int32)) rfl rfl ?_
  refine jw_istore_n (pc' := 104) (ls' := [some (vR 41 r0), some (vR 47 r1), some (vI (0 : Int32)), none]) rfl (by decide) rfl ?_
  obtain ⟨n, w⟩ := w
  exact l_X8_check_104 n _ _ _ _ w
def W_X8_check_238 (D : JD) (d : Nat) (Q : JO → JH → Prop) (K238 : Nat → Nat → Int32 → JH → Prop) (r0 : Nat) (r1 : Nat) (x2 : Int32) (h : JH) : Prop :=
  r1 ≠ 0 ∧ (((jfi h 273 r1) ≤ x2 → r0 ≠ 0 ∧ (cX8_condition D d r0 (jfr h 282 r1) h (pV D h (fun h_4 => W_X8_check_303 D d Q h_4) (jth Q)))) ∧ (¬ (jfi h 273 r1) ≤ x2 → r0 ≠ 0 ∧ (cX8_columnOf D d r0 r1 x2 h (pI D h (fun v_10 h_8 => (jfr h_8 278 r1) ≠ 0 ∧ jin x2 (jln h_8 (jfr h_8 278 r1)) ∧ (cX8_check_2 D d r0 (jar h_8 (jfr h_8 278 r1) (ixn x2)) h_8 (pI D h_8 (fun v_15 h_13 => (jfr h_13 200 r0) ≠ 0 ∧ jin (0 : Int32) (jln h_13 (jfr h_13 200 r0)) ∧ ((jar h_13 (jfr h_13 200 r0) (ixn (0 : Int32))) ≠ 0 ∧ ((jfr h_13 252 (jar h_13 (jfr h_13 200 r0) (ixn (0 : Int32)))) ≠ 0 ∧ jin v_10 (jln h_13 (jfr h_13 252 (jar h_13 (jfr h_13 200 r0) (ixn (0 : Int32))))) ∧ (cX8_fits D d r0 v_15 (jai h_13 (jfr h_13 252 (jar h_13 (jfr h_13 200 r0) (ixn (0 : Int32)))) (ixn v_10)) h_13 (pV D h_13 (fun h_21 => K238 r0 r1 (x2 + (1 : Int32)) h_21) (jth Q)))))) (jth Q)))) (jth Q)))))
theorem w_X8_check_238 {D : JD} {d : Nat} {Q : JO → JH → Prop} {K238 : Nat → Nat → Int32 → JH → Prop} {r0 : Nat} {r1 : Nat} {x2 : Int32} {h : JH} (hK238 : ∀ (r0 : Nat) (r1 : Nat) (x2 : Int32) (h : JH), K238 r0 r1 x2 h → JW D (d + 1) mX8_check 238 [some (vR 41 r0), some (vR 47 r1), some (vI x2), none] [] h Q) (w : W_X8_check_238 D d Q K238 r0 r1 x2 h) : JW D (d + 1) mX8_check 238 [some (vR 41 r0), some (vR 47 r1), some (vI x2), none] [] h Q := by
  unfold W_X8_check_238 at w
  refine jw_iload_n (pc' := 239) rfl rfl ?_
  refine jw_aload_n (pc' := 240) rfl rfl ?_
  obtain ⟨g_1, w⟩ := w
  refine jw_getI (pc' := 243) (F := 273) rfl rfl rfl rfl g_1 ?_
  refine jw_icmp_ge (tgt := 284) (pc' := 246) rfl rfl (fun c_2 => ?_) (fun c_2 => ?_)
  · replace w := w.1 c_2
    refine jw_aload_n (pc' := 285) rfl rfl ?_
    refine jw_aload_n (pc' := 286) rfl rfl ?_
    refine jw_getR (pc' := 289) (F := 282) (t' := 48) rfl rfl rfl rfl rfl g_1 ?_
    obtain ⟨g_3, w⟩ := w
    refine jw_cV (st := []) (sa := [vR 41 r0, vR 48 (jfr h 282 r1)]) okX8_condition rfl rfl rfl rfl rfl rfl (jstp_virtual (sa := [vR 48 (jfr h 282 r1)]) (st := []) (k := 0) rfl rfl sX8_condition okX8_condition g_3 (one41.k g_3) rfl rfl) w (fun h_4 _ _ w => ?_)
    refine jw_goto (pc' := 303) rfl rfl ?_
    refine jw_gen (ls' := [none, none, none, none]) (st' := []) (trivial) (trivial) ?_
    exact w_X8_check_303 w
  · replace w := w.2 c_2
    refine jw_aload_n (pc' := 247) rfl rfl ?_
    refine jw_aload_n (pc' := 248) rfl rfl ?_
    refine jw_iload_n (pc' := 249) rfl rfl ?_
    obtain ⟨g_7, w⟩ := w
    refine jw_cI (st := []) (sa := [vR 41 r0, vR 47 r1, vI x2]) okX8_columnOf rfl rfl rfl rfl rfl rfl (jstp_virtual (sa := [vR 47 r1, vI x2]) (st := []) (k := 0) rfl rfl sX8_columnOf okX8_columnOf g_7 (one41.k g_7) rfl rfl) w (fun v_10 h_8 _ _ w => ?_)
    refine jw_istore_n (pc' := 253) (ls' := [some (vR 41 r0), some (vR 47 r1), some (vI x2), some (vI v_10)]) rfl (by decide) rfl ?_
    refine jw_aload_n (pc' := 254) rfl rfl ?_
    refine jw_aload_n (pc' := 255) rfl rfl ?_
    refine jw_aload_n (pc' := 256) rfl rfl ?_
    refine jw_getR (pc' := 259) (F := 278) (t' := 202) rfl rfl rfl rfl rfl g_1 ?_
    refine jw_iload_n (pc' := 260) rfl rfl ?_
    obtain ⟨g_11, w⟩ := w
    obtain ⟨g_12, w⟩ := w
    refine jw_aald (pc' := 261) (t' := 48) rfl rfl rfl rfl g_11 g_12.ix g_12.2 ?_
    refine jw_cI (st := [vR 41 r0]) (sa := [vR 41 r0, vR 48 (jar h_8 (jfr h_8 278 r1) (ixn x2))]) okX8_check_2 rfl rfl rfl rfl rfl rfl (jstp_virtual (sa := [vR 48 (jar h_8 (jfr h_8 278 r1) (ixn x2))]) (st := [vR 41 r0]) (k := 0) rfl rfl sX8_check_2 okX8_check_2 g_7 (one41.k g_7) rfl rfl) w (fun v_15 h_13 _ _ w => ?_)
    refine jw_aload_n (pc' := 265) rfl rfl ?_
    refine jw_getR (pc' := 268) (F := 200) (t' := 167) rfl rfl rfl rfl rfl g_7 ?_
    refine jw_iconst (pc' := 269) (x := (0 : Int32)) rfl rfl ?_
    obtain ⟨g_16, w⟩ := w
    obtain ⟨g_17, w⟩ := w
    refine jw_aald (pc' := 270) (t' := 44) rfl rfl rfl rfl g_16 g_17.ix g_17.2 ?_
    obtain ⟨g_18, w⟩ := w
    refine jw_getR (pc' := 273) (F := 252) (t' := 189) rfl rfl rfl rfl rfl g_18 ?_
    refine jw_iload_n (pc' := 274) rfl rfl ?_
    obtain ⟨g_19, w⟩ := w
    obtain ⟨g_20, w⟩ := w
    refine jw_iald (pc' := 275) rfl rfl rfl rfl g_19 g_20.ix g_20.2 ?_
    refine jw_cV (st := []) (sa := [vR 41 r0, vI v_15, vI (jai h_13 (jfr h_13 252 (jar h_13 (jfr h_13 200 r0) (ixn (0 : Int32)))) (ixn v_10))]) okX8_fits rfl rfl rfl rfl rfl rfl (jstp_virtual (sa := [vI v_15, vI (jai h_13 (jfr h_13 252 (jar h_13 (jfr h_13 200 r0) (ixn (0 : Int32)))) (ixn v_10))]) (st := []) (k := 0) rfl rfl sX8_fits okX8_fits g_7 (one41.k g_7) rfl rfl) w (fun h_21 _ _ w => ?_)
    refine jw_iinc (pc' := 281) (y := x2 + (1 : Int32)) (ls' := [some (vR 41 r0), some (vR 47 r1), some (vI (x2 + (1 : Int32))), some (vI v_10)]) rfl (by decide) rfl rfl rfl ?_
    refine jw_goto (pc' := 238) rfl rfl ?_
    refine jw_gen (ls' := [some (vR 41 r0), some (vR 47 r1), some (vI (x2 + (1 : Int32))), none]) (st' := []) (And.intro (Or.inl rfl) (And.intro (Or.inl rfl) (And.intro (Or.inl rfl) (trivial)))) (trivial) ?_
    exact hK238 _ _ _ _ w
def L_X8_check_238 (D : JD) (d : Nat) (Q : JO → JH → Prop) : Nat → Nat → Nat → Int32 → JH → Prop
  | 0 => fun _ _ _ _ => False
  | n + 1 => fun r0 r1 x2 h => W_X8_check_238 D d Q (L_X8_check_238 D d Q n) r0 r1 x2 h
theorem l_X8_check_238 {D : JD} {d : Nat} {Q : JO → JH → Prop} : ∀ (n : Nat) (r0 : Nat) (r1 : Nat) (x2 : Int32) (h : JH), L_X8_check_238 D d Q n r0 r1 x2 h → JW D (d + 1) mX8_check 238 [some (vR 41 r0), some (vR 47 r1), some (vI x2), none] [] h Q := by
  intro n
  induction n with
  | zero => intro _ _ _ _ w; exact w.elim
  | succ n ih => intro _ _ _ h w; exact w_X8_check_238 ih w
def W_X8_check_0 (D : JD) (d : Nat) (Q : JO → JH → Prop) (r0 : Nat) (r1 : Nat) (h : JH) : Prop :=
  r0 ≠ 0 ∧ ∀ h_2 : JH, h_2 = wfr h 196 r0 r1 → (∀ h_4 : JH, h_4 = wfi h_2 199 r0 (0 : Int32) → (∀ h_6 : JH, h_6 = wfi h_4 201 r0 (0 : Int32) → (∀ h_8 : JH, h_8 = wfi h_6 202 r0 (0 : Int32) → (r1 ≠ 0 ∧ (((jfi h_8 270 r1) = (0 : Int32) → (jfr h_8 178 r0) ≠ 0 ∧ (cX10_find D d (jfr h_8 178 r0) (jfr h_8 271 r1) h_8 (pR D h_8 44 (fun v_15 h_13 => (v_15 ≠ 0 → W_X8_check_96 D d Q r0 r1 r0 (0 : Int32) h_13) ∧ (v_15 = 0 → W_X8_check_96 D d Q r0 r1 r0 (1 : Int32) h_13)) (jth Q)))) ∧ ((jfi h_8 270 r1) = (1 : Int32) → cX8_table D d r0 (jfr h_8 271 r1) h_8 (pR D h_8 44 (fun v_20 h_18 => W_X8_check_303 D d Q h_18) (jth Q))) ∧ ((jfi h_8 270 r1) = (2 : Int32) → cX8_checkInsert D d r0 r1 h_8 (pV D h_8 (fun h_22 => W_X8_check_303 D d Q h_22) (jth Q))) ∧ ((jfi h_8 270 r1) = (3 : Int32) → cX8_table D d r0 (jfr h_8 271 r1) h_8 (pR D h_8 44 (fun v_28 h_26 => (jfr h_8 200 r0) ≠ 0 ∧ jin (0 : Int32) (jln h_26 (jfr h_8 200 r0)) ∧ ∀ h_31 : JH, h_31 = war h_26 (jfr h_8 200 r0) (ixn (0 : Int32)) v_28 → ((jfr h_31 287 r1) ≠ 0 ∧ jin (0 : Int32) (jln h_31 (jfr h_31 287 r1)) ∧ ∀ h_35 : JH, h_35 = war h_31 (jfr h_31 287 r1) (ixn (0 : Int32)) (jfr h_31 271 r1) → (∀ h_37 : JH, h_37 = wfi h_35 199 r0 (1 : Int32) → (∃ n, L_X8_check_238 D d Q n r0 r1 (0 : Int32) h_37)))) (jth Q))) ∧ ((jfi h_8 270 r1) = (4 : Int32) → cX8_table D d r0 (jfr h_8 271 r1) h_8 (pR D h_8 44 (fun v_42 h_40 => (jfr h_8 200 r0) ≠ 0 ∧ jin (0 : Int32) (jln h_40 (jfr h_8 200 r0)) ∧ ∀ h_45 : JH, h_45 = war h_40 (jfr h_8 200 r0) (ixn (0 : Int32)) v_42 → ((jfr h_45 287 r1) ≠ 0 ∧ jin (0 : Int32) (jln h_45 (jfr h_45 287 r1)) ∧ ∀ h_49 : JH, h_49 = war h_45 (jfr h_45 287 r1) (ixn (0 : Int32)) (jfr h_45 271 r1) → (∀ h_51 : JH, h_51 = wfi h_49 199 r0 (1 : Int32) → (∃ n, L_X8_check_238 D d Q n r0 r1 (0 : Int32) h_51)))) (jth Q))) ∧ ((jfi h_8 270 r1) = (8 : Int32) → cX8_checkSelect D d r0 r1 h_8 (pV D h_8 (fun h_54 => W_X8_check_303 D d Q h_54) (jth Q))) ∧ (¬ (jfi h_8 270 r1) = (0 : Int32) → ¬ (jfi h_8 270 r1) = (1 : Int32) → ¬ (jfi h_8 270 r1) = (2 : Int32) → ¬ (jfi h_8 270 r1) = (3 : Int32) → ¬ (jfi h_8 270 r1) = (4 : Int32) → ¬ (jfi h_8 270 r1) = (8 : Int32) → W_X8_check_303 D d Q h_8))))))
theorem w_X8_check_0 {D : JD} {d : Nat} {Q : JO → JH → Prop} {r0 : Nat} {r1 : Nat} {h : JH} (w : W_X8_check_0 D d Q r0 r1 h) : JW D (d + 1) mX8_check 0 [some (vR 41 r0), some (vR 47 r1), none, none] [] h Q := by
  unfold W_X8_check_0 at w
  refine jw_aload_n (pc' := 1) rfl rfl ?_
  refine jw_aload_n (pc' := 2) rfl rfl ?_
  obtain ⟨g_1, w⟩ := w
  refine jw_putR' (pc' := 5) (F := 196) rfl rfl rfl (Or.inr rfl) (Or.inl rfl) rfl rfl rfl g_1 (fun h_2 e_3 => ?_)
  replace w := w h_2 e_3
  refine jw_aload_n (pc' := 6) rfl rfl ?_
  refine jw_iconst (pc' := 7) (x := (0 : Int32)) rfl rfl ?_
  refine jw_putI' (pc' := 10) (F := 199) rfl rfl rfl (Or.inr rfl) (Or.inl rfl) rfl (rfl) (rfl) rfl g_1 (fun h_4 e_5 => ?_)
  replace w := w h_4 e_5
  refine jw_aload_n (pc' := 11) rfl rfl ?_
  refine jw_iconst (pc' := 12) (x := (0 : Int32)) rfl rfl ?_
  refine jw_putI' (pc' := 15) (F := 201) rfl rfl rfl (Or.inr rfl) (Or.inl rfl) rfl (rfl) (rfl) rfl g_1 (fun h_6 e_7 => ?_)
  replace w := w h_6 e_7
  refine jw_aload_n (pc' := 16) rfl rfl ?_
  refine jw_iconst (pc' := 17) (x := (0 : Int32)) rfl rfl ?_
  refine jw_putI' (pc' := 20) (F := 202) rfl rfl rfl (Or.inr rfl) (Or.inl rfl) rfl (rfl) (rfl) rfl g_1 (fun h_8 e_9 => ?_)
  replace w := w h_8 e_9
  refine jw_aload_n (pc' := 21) rfl rfl ?_
  obtain ⟨g_10, w⟩ := w
  refine jw_getI (pc' := 24) (F := 270) rfl rfl rfl rfl g_10 ?_
  refine jw_tsw (cs := [((0 : Int32), 76), ((1 : Int32), 187), ((2 : Int32), 199), ((3 : Int32), 207), ((4 : Int32), 207), ((8 : Int32), 295)]) (dt := 303) rfl (by decide +kernel) ?_
  by_cases c_11 : (jfi h_8 270 r1) = (0 : Int32)
  · rw [jsw_hit c_11]
    replace w := w.1 c_11
    refine jw_aload_n (pc' := 77) rfl rfl ?_
    refine jw_aload_n (pc' := 78) rfl rfl ?_
    refine jw_getR (pc' := 81) (F := 178) (t' := 116) rfl rfl rfl rfl rfl g_1 ?_
    refine jw_aload_n (pc' := 82) rfl rfl ?_
    refine jw_getR (pc' := 85) (F := 271) (t' := 64) rfl rfl rfl rfl rfl g_10 ?_
    obtain ⟨g_12, w⟩ := w
    refine jw_cR (st := [vR 41 r0]) (sa := [vR 116 (jfr h_8 178 r0), vR 64 (jfr h_8 271 r1)]) okX10_find rfl rfl rfl rfl rfl rfl (jstp_virtual (sa := [vR 64 (jfr h_8 271 r1)]) (st := [vR 41 r0]) (k := 0) rfl rfl sX10_find okX10_find g_12 (one116.k g_12) rfl rfl) w (fun v_15 h_13 _ _ _ w => ?_)
    refine jw_ifnonnull (tgt := 95) (pc' := 91) rfl rfl (fun c_16 => ?_) (fun c_16 => ?_)
    · replace w := w.1 c_16
      refine jw_iconst (pc' := 96) (x := (0 : Int32)) rfl rfl ?_
      exact w_X8_check_96 w
    · replace w := w.2 c_16
      refine jw_iconst (pc' := 92) (x := (1 : Int32)) rfl rfl ?_
      refine jw_goto (pc' := 96) rfl rfl ?_
      exact w_X8_check_96 w
  · rw [jsw_miss c_11]
    replace w := w.2
    by_cases c_17 : (jfi h_8 270 r1) = (1 : Int32)
    · rw [jsw_hit c_17]
      replace w := w.1 c_17
      refine jw_aload_n (pc' := 188) rfl rfl ?_
      refine jw_aload_n (pc' := 189) rfl rfl ?_
      refine jw_getR (pc' := 192) (F := 271) (t' := 64) rfl rfl rfl rfl rfl g_10 ?_
      refine jw_cR (st := []) (sa := [vR 41 r0, vR 64 (jfr h_8 271 r1)]) okX8_table rfl rfl rfl rfl rfl rfl (jstp_virtual (sa := [vR 64 (jfr h_8 271 r1)]) (st := []) (k := 0) rfl rfl sX8_table okX8_table g_1 (one41.k g_1) rfl rfl) w (fun v_20 h_18 _ _ _ w => ?_)
      refine jw_pop (pc' := 196) rfl rfl ?_
      refine jw_goto (pc' := 303) rfl rfl ?_
      refine jw_gen (ls' := [none, none, none, none]) (st' := []) (trivial) (trivial) ?_
      exact w_X8_check_303 w
    · rw [jsw_miss c_17]
      replace w := w.2
      by_cases c_21 : (jfi h_8 270 r1) = (2 : Int32)
      · rw [jsw_hit c_21]
        replace w := w.1 c_21
        refine jw_aload_n (pc' := 200) rfl rfl ?_
        refine jw_aload_n (pc' := 201) rfl rfl ?_
        refine jw_cV (st := []) (sa := [vR 41 r0, vR 47 r1]) okX8_checkInsert rfl rfl rfl rfl rfl rfl (jstp_virtual (sa := [vR 47 r1]) (st := []) (k := 0) rfl rfl sX8_checkInsert okX8_checkInsert g_1 (one41.k g_1) rfl rfl) w (fun h_22 _ _ w => ?_)
        refine jw_goto (pc' := 303) rfl rfl ?_
        refine jw_gen (ls' := [none, none, none, none]) (st' := []) (trivial) (trivial) ?_
        exact w_X8_check_303 w
      · rw [jsw_miss c_21]
        replace w := w.2
        by_cases c_25 : (jfi h_8 270 r1) = (3 : Int32)
        · rw [jsw_hit c_25]
          replace w := w.1 c_25
          refine jw_aload_n (pc' := 208) rfl rfl ?_
          refine jw_getR (pc' := 211) (F := 200) (t' := 167) rfl rfl rfl rfl rfl g_1 ?_
          refine jw_iconst (pc' := 212) (x := (0 : Int32)) rfl rfl ?_
          refine jw_aload_n (pc' := 213) rfl rfl ?_
          refine jw_aload_n (pc' := 214) rfl rfl ?_
          refine jw_getR (pc' := 217) (F := 271) (t' := 64) rfl rfl rfl rfl rfl g_10 ?_
          refine jw_cR (st := [vI (0 : Int32), vR 167 (jfr h_8 200 r0)]) (sa := [vR 41 r0, vR 64 (jfr h_8 271 r1)]) okX8_table rfl rfl rfl rfl rfl rfl (jstp_virtual (sa := [vR 64 (jfr h_8 271 r1)]) (st := [vI (0 : Int32), vR 167 (jfr h_8 200 r0)]) (k := 0) rfl rfl sX8_table okX8_table g_1 (one41.k g_1) rfl rfl) w (fun v_28 h_26 _ _ _ w => ?_)
          obtain ⟨g_29, w⟩ := w
          obtain ⟨g_30, w⟩ := w
          refine jw_aast' (pc' := 221) rfl rfl rfl rfl rfl rfl g_29 g_30 (fun h_31 e_32 => ?_)
          replace w := w h_31 e_32
          refine jw_aload_n (pc' := 222) rfl rfl ?_
          refine jw_getR (pc' := 225) (F := 287) (t' := 206) rfl rfl rfl rfl rfl g_10 ?_
          refine jw_iconst (pc' := 226) (x := (0 : Int32)) rfl rfl ?_
          refine jw_aload_n (pc' := 227) rfl rfl ?_
          refine jw_getR (pc' := 230) (F := 271) (t' := 64) rfl rfl rfl rfl rfl g_10 ?_
          obtain ⟨g_33, w⟩ := w
          obtain ⟨g_34, w⟩ := w
          refine jw_aast' (pc' := 231) rfl rfl rfl rfl rfl rfl g_33 g_34 (fun h_35 e_36 => ?_)
          replace w := w h_35 e_36
          refine jw_aload_n (pc' := 232) rfl rfl ?_
          refine jw_iconst (pc' := 233) (x := (1 : Int32)) rfl rfl ?_
          refine jw_putI' (pc' := 236) (F := 199) rfl rfl rfl (Or.inr rfl) (Or.inl rfl) rfl (rfl) (rfl) rfl g_1 (fun h_37 e_38 => ?_)
          replace w := w h_37 e_38
          refine jw_iconst (pc' := 237) (x := (0 : Int32)) rfl rfl ?_
          refine jw_istore_n (pc' := 238) (ls' := [some (vR 41 r0), some (vR 47 r1), some (vI (0 : Int32)), none]) rfl (by decide) rfl ?_
          obtain ⟨n, w⟩ := w
          exact l_X8_check_238 n _ _ _ _ w
        · rw [jsw_miss c_25]
          replace w := w.2
          by_cases c_39 : (jfi h_8 270 r1) = (4 : Int32)
          · rw [jsw_hit c_39]
            replace w := w.1 c_39
            refine jw_aload_n (pc' := 208) rfl rfl ?_
            refine jw_getR (pc' := 211) (F := 200) (t' := 167) rfl rfl rfl rfl rfl g_1 ?_
            refine jw_iconst (pc' := 212) (x := (0 : Int32)) rfl rfl ?_
            refine jw_aload_n (pc' := 213) rfl rfl ?_
            refine jw_aload_n (pc' := 214) rfl rfl ?_
            refine jw_getR (pc' := 217) (F := 271) (t' := 64) rfl rfl rfl rfl rfl g_10 ?_
            refine jw_cR (st := [vI (0 : Int32), vR 167 (jfr h_8 200 r0)]) (sa := [vR 41 r0, vR 64 (jfr h_8 271 r1)]) okX8_table rfl rfl rfl rfl rfl rfl (jstp_virtual (sa := [vR 64 (jfr h_8 271 r1)]) (st := [vI (0 : Int32), vR 167 (jfr h_8 200 r0)]) (k := 0) rfl rfl sX8_table okX8_table g_1 (one41.k g_1) rfl rfl) w (fun v_42 h_40 _ _ _ w => ?_)
            obtain ⟨g_43, w⟩ := w
            obtain ⟨g_44, w⟩ := w
            refine jw_aast' (pc' := 221) rfl rfl rfl rfl rfl rfl g_43 g_44 (fun h_45 e_46 => ?_)
            replace w := w h_45 e_46
            refine jw_aload_n (pc' := 222) rfl rfl ?_
            refine jw_getR (pc' := 225) (F := 287) (t' := 206) rfl rfl rfl rfl rfl g_10 ?_
            refine jw_iconst (pc' := 226) (x := (0 : Int32)) rfl rfl ?_
            refine jw_aload_n (pc' := 227) rfl rfl ?_
            refine jw_getR (pc' := 230) (F := 271) (t' := 64) rfl rfl rfl rfl rfl g_10 ?_
            obtain ⟨g_47, w⟩ := w
            obtain ⟨g_48, w⟩ := w
            refine jw_aast' (pc' := 231) rfl rfl rfl rfl rfl rfl g_47 g_48 (fun h_49 e_50 => ?_)
            replace w := w h_49 e_50
            refine jw_aload_n (pc' := 232) rfl rfl ?_
            refine jw_iconst (pc' := 233) (x := (1 : Int32)) rfl rfl ?_
            refine jw_putI' (pc' := 236) (F := 199) rfl rfl rfl (Or.inr rfl) (Or.inl rfl) rfl (rfl) (rfl) rfl g_1 (fun h_51 e_52 => ?_)
            replace w := w h_51 e_52
            refine jw_iconst (pc' := 237) (x := (0 : Int32)) rfl rfl ?_
            refine jw_istore_n (pc' := 238) (ls' := [some (vR 41 r0), some (vR 47 r1), some (vI (0 : Int32)), none]) rfl (by decide) rfl ?_
            obtain ⟨n, w⟩ := w
            exact l_X8_check_238 n _ _ _ _ w
          · rw [jsw_miss c_39]
            replace w := w.2
            by_cases c_53 : (jfi h_8 270 r1) = (8 : Int32)
            · rw [jsw_hit c_53]
              replace w := w.1 c_53
              refine jw_aload_n (pc' := 296) rfl rfl ?_
              refine jw_aload_n (pc' := 297) rfl rfl ?_
              refine jw_cV (st := []) (sa := [vR 41 r0, vR 47 r1]) okX8_checkSelect rfl rfl rfl rfl rfl rfl (jstp_virtual (sa := [vR 47 r1]) (st := []) (k := 0) rfl rfl sX8_checkSelect okX8_checkSelect g_1 (one41.k g_1) rfl rfl) w (fun h_54 _ _ w => ?_)
              refine jw_goto (pc' := 303) rfl rfl ?_
              refine jw_gen (ls' := [none, none, none, none]) (st' := []) (trivial) (trivial) ?_
              exact w_X8_check_303 w
            · rw [jsw_miss c_53]
              replace w := w.2
              rw [jsw_nil]
              replace w := w c_11 c_17 c_21 c_25 c_39 c_53
              refine jw_gen (ls' := [none, none, none, none]) (st' := []) (trivial) (trivial) ?_
              exact w_X8_check_303 w
def T_X8_check (D : JD) (d : Nat) (Q : JO → JH → Prop) (r0 : Nat) (r1 : Nat) (h : JH) : Prop := W_X8_check_0 D d Q r0 r1 h
theorem t_X8_check {D : JD} {d : Nat} {Q : JO → JH → Prop} {r0 : Nat} {r1 : Nat} {h : JH} (w : T_X8_check D d Q r0 r1 h) : cX8_check D (d + 1) r0 r1 h Q := by
  unfold T_X8_check at w
  unfold cX8_check
  exact w_X8_check_0 w
def W_X8_table_19 (D : JD) (d : Nat) (Q : JO → JH → Prop) (r2 : Nat) (q0 : Nat) (s1 : Int32) (h : JH) : Prop :=
  q0 ≠ 0 ∧ (cX8_must D d q0 s1 (jcs D 303) h (pV D h (fun h_2 => Q (.inl (some (vR 44 r2))) h_2) (jth Q)))
theorem w_X8_table_19 {D : JD} {d : Nat} {Q : JO → JH → Prop} {r2 : Nat} {q0 : Nat} {s1 : Int32} {h : JH} (w : W_X8_table_19 D d Q r2 q0 s1 h) : JW D (d + 1) mX8_table 19 [none, none, some (vR 44 r2)] [vI s1, vR 41 q0] h Q := by
  unfold W_X8_table_19 at w
  refine jw_ldcwS (pc' := 22) rfl rfl rfl rfl ?_
  obtain ⟨g_1, w⟩ := w
  refine jw_cV (st := []) (sa := [vR 41 q0, vI s1, vR 51 (jcs D 303)]) okX8_must rfl rfl rfl rfl rfl rfl (jstp_virtual (sa := [vI s1, vR 51 (jcs D 303)]) (st := []) (k := 0) rfl rfl sX8_must okX8_must g_1 (one41.k g_1) rfl rfl) w (fun h_2 _ _ w => ?_)
  refine jw_aload_n (pc' := 26) rfl rfl ?_
  exact jw_areturn rfl rfl rfl rfl rfl w
def W_X8_table_0 (D : JD) (d : Nat) (Q : JO → JH → Prop) (r0 : Nat) (r1 : Nat) (h : JH) : Prop :=
  r0 ≠ 0 ∧ ((jfr h 178 r0) ≠ 0 ∧ (cX10_find D d (jfr h 178 r0) r1 h (pR D h 44 (fun v_5 h_3 => (v_5 = 0 → W_X8_table_19 D d Q v_5 r0 (0 : Int32) h_3) ∧ (v_5 ≠ 0 → W_X8_table_19 D d Q v_5 r0 (1 : Int32) h_3)) (jth Q))))
theorem w_X8_table_0 {D : JD} {d : Nat} {Q : JO → JH → Prop} {r0 : Nat} {r1 : Nat} {h : JH} (w : W_X8_table_0 D d Q r0 r1 h) : JW D (d + 1) mX8_table 0 [some (vR 41 r0), some (vR 64 r1), none] [] h Q := by
  unfold W_X8_table_0 at w
  refine jw_aload_n (pc' := 1) rfl rfl ?_
  obtain ⟨g_1, w⟩ := w
  refine jw_getR (pc' := 4) (F := 178) (t' := 116) rfl rfl rfl rfl rfl g_1 ?_
  refine jw_aload_n (pc' := 5) rfl rfl ?_
  obtain ⟨g_2, w⟩ := w
  refine jw_cR (st := []) (sa := [vR 116 (jfr h 178 r0), vR 64 r1]) okX10_find rfl rfl rfl rfl rfl rfl (jstp_virtual (sa := [vR 64 r1]) (st := []) (k := 0) rfl rfl sX10_find okX10_find g_2 (one116.k g_2) rfl rfl) w (fun v_5 h_3 _ _ _ w => ?_)
  refine jw_astore_n (pc' := 9) (ls' := [some (vR 41 r0), some (vR 64 r1), some (vR 44 v_5)]) rfl (by decide) rfl ?_
  refine jw_aload_n (pc' := 10) rfl rfl ?_
  refine jw_aload_n (pc' := 11) rfl rfl ?_
  refine jw_ifnull (tgt := 18) (pc' := 14) rfl rfl (fun c_6 => ?_) (fun c_6 => ?_)
  · replace w := w.1 c_6
    refine jw_iconst (pc' := 19) (x := (0 : Int32)) rfl rfl ?_
    refine jw_gen (ls' := [none, none, some (vR 44 v_5)]) (st' := [vI (0 : Int32), vR 41 r0]) (And.intro (Or.inl rfl) (trivial)) (And.intro (Or.inl rfl) (And.intro (Or.inl rfl) (trivial))) ?_
    exact w_X8_table_19 w
  · replace w := w.2 c_6
    refine jw_iconst (pc' := 15) (x := (1 : Int32)) rfl rfl ?_
    refine jw_goto (pc' := 19) rfl rfl ?_
    refine jw_gen (ls' := [none, none, some (vR 44 v_5)]) (st' := [vI (1 : Int32), vR 41 r0]) (And.intro (Or.inl rfl) (trivial)) (And.intro (Or.inl rfl) (And.intro (Or.inl rfl) (trivial))) ?_
    exact w_X8_table_19 w
def T_X8_table (D : JD) (d : Nat) (Q : JO → JH → Prop) (r0 : Nat) (r1 : Nat) (h : JH) : Prop := W_X8_table_0 D d Q r0 r1 h
theorem t_X8_table {D : JD} {d : Nat} {Q : JO → JH → Prop} {r0 : Nat} {r1 : Nat} {h : JH} (w : T_X8_table D d Q r0 r1 h) : cX8_table D (d + 1) r0 r1 h Q := by
  unfold T_X8_table at w
  unfold cX8_table
  exact w_X8_table_0 w
