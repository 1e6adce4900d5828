/-! what each method needs (printed by tools/gen_wp.py) -/
set_option maxRecDepth 4000
def W_X1_drop_176 (D : JD) (d : Nat) (Q : JO → JH → Prop) (r0 : Nat) (h : JH) : Prop :=
  r0 ≠ 0 ∧ ((jfr h 4 r0) ≠ 0 ∧ (cX2_plain D d (jfr h 4 r0) (51 : Int32) h (pV D h (fun h_3 => Q (.inl none) h_3) (jth Q))))
theorem w_X1_drop_176 {D : JD} {d : Nat} {Q : JO → JH → Prop} {r0 : Nat} {h : JH} (w : W_X1_drop_176 D d Q r0 h) : JW D (d + 1) mX1_drop 176 [some (vR 1 r0), none, none, none] [] h Q := by
  unfold W_X1_drop_176 at w
  refine jw_aload_n (pc' := 177) rfl rfl ?_
  obtain ⟨g_1, w⟩ := w
  refine jw_getR (pc' := 180) (F := 4) (t' := 112) rfl rfl rfl rfl rfl g_1 ?_
  refine jw_bipush (pc' := 182) (x := (51 : Int32)) rfl rfl ?_
  obtain ⟨g_2, w⟩ := w
  refine jw_cV (st := []) (sa := [vR 112 (jfr h 4 r0), vI (51 : Int32)]) okX2_plain rfl rfl rfl rfl rfl rfl (jstp_virtual (sa := [vI (51 : Int32)]) (st := []) (k := 0) rfl rfl sX2_plain okX2_plain g_2 (one112.k g_2) rfl rfl) w (fun h_3 _ _ w => ?_)
  exact jw_return rfl rfl w
def W_X1_drop_148 (D : JD) (d : Nat) (Q : JO → JH → Prop) (K148 : Nat → Int32 → JH → Prop) (r0 : Nat) (x3 : Int32) (h : JH) : Prop :=
  r0 ≠ 0 ∧ (((jfi h 11 r0) ≤ x3 → W_X1_drop_176 D d Q r0 h) ∧ (¬ (jfi h 11 r0) ≤ x3 → (jfr h 10 r0) ≠ 0 ∧ jin (x3 + (1 : Int32)) (jln h (jfr h 10 r0)) ∧ (jin x3 (jln h (jfr h 10 r0)) ∧ ∀ h_6 : JH, h_6 = war h (jfr h 10 r0) (ixn x3) (jar h (jfr h 10 r0) (ixn (x3 + (1 : Int32)))) → (K148 r0 (x3 + (1 : Int32)) h_6))))
theorem w_X1_drop_148 {D : JD} {d : Nat} {Q : JO → JH → Prop} {K148 : Nat → Int32 → JH → Prop} {r0 : Nat} {x3 : Int32} {h : JH} (hK148 : ∀ (r0 : Nat) (x3 : Int32) (h : JH), K148 r0 x3 h → JW D (d + 1) mX1_drop 148 [some (vR 1 r0), none, none, some (vI x3)] [] h Q) (w : W_X1_drop_148 D d Q K148 r0 x3 h) : JW D (d + 1) mX1_drop 148 [some (vR 1 r0), none, none, some (vI x3)] [] h Q := by
  unfold W_X1_drop_148 at w
  refine jw_iload_n (pc' := 149) rfl rfl ?_
  refine jw_aload_n (pc' := 150) rfl rfl ?_
  obtain ⟨g_1, w⟩ := w
  refine jw_getI (pc' := 153) (F := 11) rfl rfl rfl rfl g_1 ?_
  refine jw_icmp_ge (tgt := 176) (pc' := 156) rfl rfl (fun c_2 => ?_) (fun c_2 => ?_)
  · replace w := w.1 c_2
    refine jw_gen (ls' := [some (vR 1 r0), none, none, none]) (st' := []) (And.intro (Or.inl rfl) (trivial)) (trivial) ?_
    exact w_X1_drop_176 w
  · replace w := w.2 c_2
    refine jw_aload_n (pc' := 157) rfl rfl ?_
    refine jw_getR (pc' := 160) (F := 10) (t' := 125) rfl rfl rfl rfl rfl g_1 ?_
    refine jw_iload_n (pc' := 161) rfl rfl ?_
    refine jw_aload_n (pc' := 162) rfl rfl ?_
    refine jw_getR (pc' := 165) (F := 10) (t' := 125) rfl rfl rfl rfl rfl g_1 ?_
    refine jw_iload_n (pc' := 166) rfl rfl ?_
    refine jw_iconst (pc' := 167) (x := (1 : Int32)) rfl rfl ?_
    refine jw_iadd (pc' := 168) rfl ?_
    obtain ⟨g_3, w⟩ := w
    obtain ⟨g_4, w⟩ := w
    refine jw_aald (pc' := 169) (t' := 37) rfl rfl rfl rfl g_3 g_4.ix g_4.2 ?_
    obtain ⟨g_5, w⟩ := w
    refine jw_aast' (pc' := 170) rfl rfl rfl rfl rfl rfl g_3 g_5 (fun h_6 e_7 => ?_)
    replace w := w h_6 e_7
    refine jw_iinc (pc' := 173) (y := x3 + (1 : Int32)) (ls' := [some (vR 1 r0), none, none, some (vI (x3 + (1 : Int32)))]) rfl (by decide) rfl rfl rfl ?_
    refine jw_goto (pc' := 148) rfl rfl ?_
    exact hK148 _ _ _ w
def L_X1_drop_148 (D : JD) (d : Nat) (Q : JO → JH → Prop) : Nat → Nat → Int32 → JH → Prop
  | 0 => fun _ _ _ => False
  | n + 1 => fun r0 x3 h => W_X1_drop_148 D d Q (L_X1_drop_148 D d Q n) r0 x3 h
theorem l_X1_drop_148 {D : JD} {d : Nat} {Q : JO → JH → Prop} : ∀ (n : Nat) (r0 : Nat) (x3 : Int32) (h : JH), L_X1_drop_148 D d Q n r0 x3 h → JW D (d + 1) mX1_drop 148 [some (vR 1 r0), none, none, some (vI x3)] [] h Q := by
  intro n
  induction n with
  | zero => intro _ _ _ w; exact w.elim
  | succ n ih => intro _ _ h w; exact w_X1_drop_148 ih w
def W_X1_drop_115 (D : JD) (d : Nat) (Q : JO → JH → Prop) (r0 : Nat) (h : JH) : Prop :=
  W_X1_drop_176 D d Q r0 h
theorem w_X1_drop_115 {D : JD} {d : Nat} {Q : JO → JH → Prop} {r0 : Nat} {h : JH} (w : W_X1_drop_115 D d Q r0 h) : JW D (d + 1) mX1_drop 115 [some (vR 1 r0), none, none, none] [] h Q := by
  unfold W_X1_drop_115 at w
  refine jw_goto (pc' := 176) rfl rfl ?_
  exact w_X1_drop_176 w
def W_X1_drop_87 (D : JD) (d : Nat) (Q : JO → JH → Prop) (K87 : Nat → Int32 → JH → Prop) (r0 : Nat) (x3 : Int32) (h : JH) : Prop :=
  r0 ≠ 0 ∧ (((jfi h 9 r0) ≤ x3 → W_X1_drop_115 D d Q r0 h) ∧ (¬ (jfi h 9 r0) ≤ x3 → (jfr h 8 r0) ≠ 0 ∧ jin (x3 + (1 : Int32)) (jln h (jfr h 8 r0)) ∧ (jin x3 (jln h (jfr h 8 r0)) ∧ ∀ h_6 : JH, h_6 = war h (jfr h 8 r0) (ixn x3) (jar h (jfr h 8 r0) (ixn (x3 + (1 : Int32)))) → (K87 r0 (x3 + (1 : Int32)) h_6))))
theorem w_X1_drop_87 {D : JD} {d : Nat} {Q : JO → JH → Prop} {K87 : Nat → Int32 → JH → Prop} {r0 : Nat} {x3 : Int32} {h : JH} (hK87 : ∀ (r0 : Nat) (x3 : Int32) (h : JH), K87 r0 x3 h → JW D (d + 1) mX1_drop 87 [some (vR 1 r0), none, none, some (vI x3)] [] h Q) (w : W_X1_drop_87 D d Q K87 r0 x3 h) : JW D (d + 1) mX1_drop 87 [some (vR 1 r0), none, none, some (vI x3)] [] h Q := by
  unfold W_X1_drop_87 at w
  refine jw_iload_n (pc' := 88) rfl rfl ?_
  refine jw_aload_n (pc' := 89) rfl rfl ?_
  obtain ⟨g_1, w⟩ := w
  refine jw_getI (pc' := 92) (F := 9) rfl rfl rfl rfl g_1 ?_
  refine jw_icmp_ge (tgt := 115) (pc' := 95) rfl rfl (fun c_2 => ?_) (fun c_2 => ?_)
  · replace w := w.1 c_2
    refine jw_gen (ls' := [some (vR 1 r0), none, none, none]) (st' := []) (And.intro (Or.inl rfl) (trivial)) (trivial) ?_
    exact w_X1_drop_115 w
  · replace w := w.2 c_2
    refine jw_aload_n (pc' := 96) rfl rfl ?_
    refine jw_getR (pc' := 99) (F := 8) (t' := 124) rfl rfl rfl rfl rfl g_1 ?_
    refine jw_iload_n (pc' := 100) rfl rfl ?_
    refine jw_aload_n (pc' := 101) rfl rfl ?_
    refine jw_getR (pc' := 104) (F := 8) (t' := 124) rfl rfl rfl rfl rfl g_1 ?_
    refine jw_iload_n (pc' := 105) rfl rfl ?_
    refine jw_iconst (pc' := 106) (x := (1 : Int32)) rfl rfl ?_
    refine jw_iadd (pc' := 107) rfl ?_
    obtain ⟨g_3, w⟩ := w
    obtain ⟨g_4, w⟩ := w
    refine jw_aald (pc' := 108) (t' := 36) rfl rfl rfl rfl g_3 g_4.ix g_4.2 ?_
    obtain ⟨g_5, w⟩ := w
    refine jw_aast' (pc' := 109) rfl rfl rfl rfl rfl rfl g_3 g_5 (fun h_6 e_7 => ?_)
    replace w := w h_6 e_7
    refine jw_iinc (pc' := 112) (y := x3 + (1 : Int32)) (ls' := [some (vR 1 r0), none, none, some (vI (x3 + (1 : Int32)))]) rfl (by decide) rfl rfl rfl ?_
    refine jw_goto (pc' := 87) rfl rfl ?_
    exact hK87 _ _ _ w
def L_X1_drop_87 (D : JD) (d : Nat) (Q : JO → JH → Prop) : Nat → Nat → Int32 → JH → Prop
  | 0 => fun _ _ _ => False
  | n + 1 => fun r0 x3 h => W_X1_drop_87 D d Q (L_X1_drop_87 D d Q n) r0 x3 h
theorem l_X1_drop_87 {D : JD} {d : Nat} {Q : JO → JH → Prop} : ∀ (n : Nat) (r0 : Nat) (x3 : Int32) (h : JH), L_X1_drop_87 D d Q n r0 x3 h → JW D (d + 1) mX1_drop 87 [some (vR 1 r0), none, none, some (vI x3)] [] h Q := by
  intro n
  induction n with
  | zero => intro _ _ _ w; exact w.elim
  | succ n ih => intro _ _ h w; exact w_X1_drop_87 ih w
def W_X1_drop_42 (D : JD) (d : Nat) (Q : JO → JH → Prop) (r0 : Nat) (x1 : Int32) (h : JH) : Prop :=
  r0 ≠ 0 ∧ (∀ h_2 : JH, h_2 = wfi h 13 r0 ((jfi h 13 r0) + (1 : Int32)) → (cX1_string D d r0 h_2 (pR D h_2 64 (fun v_6 h_4 => cX1_all D d r0 h_4 (pV D h_4 (fun h_7 => (¬ x1 = (83 : Int32) → cX1_portal D d r0 v_6 h_7 (pI D h_7 (fun v_13 h_11 => (v_13 < 0 → W_X1_drop_176 D d Q r0 h_11) ∧ (¬ v_13 < 0 → (jfr h_11 10 r0) ≠ 0 ∧ jin v_13 (jln h_11 (jfr h_11 10 r0)) ∧ (cX1_free D d r0 (jar h_11 (jfr h_11 10 r0) (ixn v_13)) h_11 (pV D h_11 (fun h_17 => ∀ h_20 : JH, h_20 = wfi h_17 11 r0 ((jfi h_17 11 r0) - (1 : Int32)) → (∃ n, L_X1_drop_148 D d Q n r0 v_13 h_20)) (jth Q))))) (jth Q))) ∧ (x1 = (83 : Int32) → cX1_statement D d r0 v_6 h_7 (pI D h_7 (fun v_24 h_22 => (v_24 < 0 → W_X1_drop_115 D d Q r0 h_22) ∧ (¬ v_24 < 0 → ∀ h_26 : JH, h_26 = wfi h_22 9 r0 ((jfi h_22 9 r0) - (1 : Int32)) → (∃ n, L_X1_drop_87 D d Q n r0 v_24 h_26))) (jth Q)))) (jth Q))) (jth Q))))
theorem w_X1_drop_42 {D : JD} {d : Nat} {Q : JO → JH → Prop} {r0 : Nat} {x1 : Int32} {h : JH} (w : W_X1_drop_42 D d Q r0 x1 h) : JW D (d + 1) mX1_drop 42 [some (vR 1 r0), some (vI x1), none, none] [] h Q := by
  unfold W_X1_drop_42 at w
  refine jw_aload_n (pc' := 43) rfl rfl ?_
  refine jw_dup (pc' := 44) rfl rfl ?_
  obtain ⟨g_1, w⟩ := w
  refine jw_getI (pc' := 47) (F := 13) rfl rfl rfl rfl g_1 ?_
  refine jw_iconst (pc' := 48) (x := (1 : Int32)) rfl rfl ?_
  refine jw_iadd (pc' := 49) rfl ?_
  refine jw_putI' (pc' := 52) (F := 13) rfl rfl rfl (Or.inr rfl) (Or.inl rfl) rfl (rfl) (rfl) rfl g_1 (fun h_2 e_3 => ?_)
  replace w := w h_2 e_3
  refine jw_aload_n (pc' := 53) rfl rfl ?_
  refine jw_cR (st := []) (sa := [vR 1 r0]) okX1_string rfl rfl rfl rfl rfl rfl (jstp_virtual (sa := []) (st := []) (k := 0) rfl rfl sX1_string okX1_string g_1 (one1.k g_1) rfl rfl) w (fun v_6 h_4 _ _ _ w => ?_)
  refine jw_astore_n (pc' := 57) (ls' := [some (vR 1 r0), some (vI x1), some (vR 64 v_6), none]) rfl (by decide) rfl ?_
  refine jw_aload_n (pc' := 58) rfl rfl ?_
  refine jw_cV (st := []) (sa := [vR 1 r0]) okX1_all rfl rfl rfl rfl rfl rfl (jstp_virtual (sa := []) (st := []) (k := 0) rfl rfl sX1_all okX1_all g_1 (one1.k g_1) rfl rfl) w (fun h_7 _ _ w => ?_)
  refine jw_iload_n (pc' := 62) rfl rfl ?_
  refine jw_bipush (pc' := 64) (x := (83 : Int32)) rfl rfl ?_
  refine jw_icmp_ne (tgt := 118) (pc' := 67) rfl rfl (fun c_10 => ?_) (fun c_10 => ?_)
  · replace w := w.1 c_10
    refine jw_aload_n (pc' := 119) rfl rfl ?_
    refine jw_aload_n (pc' := 120) rfl rfl ?_
    refine jw_cI (st := []) (sa := [vR 1 r0, vR 64 v_6]) okX1_portal rfl rfl rfl rfl rfl rfl (jstp_virtual (sa := [vR 64 v_6]) (st := []) (k := 0) rfl rfl sX1_portal okX1_portal g_1 (one1.k g_1) rfl rfl) w (fun v_13 h_11 _ _ w => ?_)
    refine jw_istore_n (pc' := 124) (ls' := [some (vR 1 r0), some (vI x1), some (vR 64 v_6), some (vI v_13)]) rfl (by decide) rfl ?_
    refine jw_iload_n (pc' := 125) rfl rfl ?_
    refine jw_if_lt (tgt := 176) (pc' := 128) rfl rfl (fun c_14 => ?_) (fun c_14 => ?_)
    · replace w := w.1 c_14
      refine jw_gen (ls' := [some (vR 1 r0), none, none, none]) (st' := []) (And.intro (Or.inl rfl) (trivial)) (trivial) ?_
      exact w_X1_drop_176 w
    · replace w := w.2 c_14
      refine jw_aload_n (pc' := 129) rfl rfl ?_
      refine jw_aload_n (pc' := 130) rfl rfl ?_
      refine jw_getR (pc' := 133) (F := 10) (t' := 125) rfl rfl rfl rfl rfl g_1 ?_
      refine jw_iload_n (pc' := 134) rfl rfl ?_
      obtain ⟨g_15, w⟩ := w
      obtain ⟨g_16, w⟩ := w
      refine jw_aald (pc' := 135) (t' := 37) rfl rfl rfl rfl g_15 g_16.ix g_16.2 ?_
      refine jw_cV (st := []) (sa := [vR 1 r0, vR 37 (jar h_11 (jfr h_11 10 r0) (ixn v_13))]) okX1_free rfl rfl rfl rfl rfl rfl (jstp_virtual (sa := [vR 37 (jar h_11 (jfr h_11 10 r0) (ixn v_13))]) (st := []) (k := 0) rfl rfl sX1_free okX1_free g_1 (one1.k g_1) rfl rfl) w (fun h_17 _ _ w => ?_)
      refine jw_aload_n (pc' := 139) rfl rfl ?_
      refine jw_dup (pc' := 140) rfl rfl ?_
      refine jw_getI (pc' := 143) (F := 11) rfl rfl rfl rfl g_1 ?_
      refine jw_iconst (pc' := 144) (x := (1 : Int32)) rfl rfl ?_
      refine jw_isub (pc' := 145) rfl ?_
      refine jw_putI' (pc' := 148) (F := 11) rfl rfl rfl (Or.inr rfl) (Or.inl rfl) rfl (rfl) (rfl) rfl g_1 (fun h_20 e_21 => ?_)
      replace w := w h_20 e_21
      refine jw_gen (ls' := [some (vR 1 r0), none, none, some (vI v_13)]) (st' := []) (And.intro (Or.inl rfl) (And.intro (Or.inl rfl) (trivial))) (trivial) ?_
      obtain ⟨n, w⟩ := w
      exact l_X1_drop_148 n _ _ _ w
  · replace w := w.2 c_10
    refine jw_aload_n (pc' := 68) rfl rfl ?_
    refine jw_aload_n (pc' := 69) rfl rfl ?_
    refine jw_cI (st := []) (sa := [vR 1 r0, vR 64 v_6]) okX1_statement rfl rfl rfl rfl rfl rfl (jstp_virtual (sa := [vR 64 v_6]) (st := []) (k := 0) rfl rfl sX1_statement okX1_statement g_1 (one1.k g_1) rfl rfl) w (fun v_24 h_22 _ _ w => ?_)
    refine jw_istore_n (pc' := 73) (ls' := [some (vR 1 r0), some (vI x1), some (vR 64 v_6), some (vI v_24)]) rfl (by decide) rfl ?_
    refine jw_iload_n (pc' := 74) rfl rfl ?_
    refine jw_if_lt (tgt := 115) (pc' := 77) rfl rfl (fun c_25 => ?_) (fun c_25 => ?_)
    · replace w := w.1 c_25
      refine jw_gen (ls' := [some (vR 1 r0), none, none, none]) (st' := []) (And.intro (Or.inl rfl) (trivial)) (trivial) ?_
      exact w_X1_drop_115 w
    · replace w := w.2 c_25
      refine jw_aload_n (pc' := 78) rfl rfl ?_
      refine jw_dup (pc' := 79) rfl rfl ?_
      refine jw_getI (pc' := 82) (F := 9) rfl rfl rfl rfl g_1 ?_
      refine jw_iconst (pc' := 83) (x := (1 : Int32)) rfl rfl ?_
      refine jw_isub (pc' := 84) rfl ?_
      refine jw_putI' (pc' := 87) (F := 9) rfl rfl rfl (Or.inr rfl) (Or.inl rfl) rfl (rfl) (rfl) rfl g_1 (fun h_26 e_27 => ?_)
      replace w := w h_26 e_27
      refine jw_gen (ls' := [some (vR 1 r0), none, none, some (vI v_24)]) (st' := []) (And.intro (Or.inl rfl) (And.intro (Or.inl rfl) (trivial))) (trivial) ?_
      obtain ⟨n, w⟩ := w
      exact l_X1_drop_87 n _ _ _ w
def W_X1_drop_24 (D : JD) (d : Nat) (Q : JO → JH → Prop) (r0 : Nat) (s0 : Int32) (h : JH) : Prop :=
  (s0 = (83 : Int32) → W_X1_drop_42 D d Q r0 s0 h) ∧ (¬ s0 = (83 : Int32) → (s0 = (80 : Int32) → W_X1_drop_42 D d Q r0 s0 h) ∧ (¬ s0 = (80 : Int32) → r0 ≠ 0 ∧ (cX1_protocol D d r0 h (pR D h 9 (fun v_6 h_4 => v_6 ≠ 0 ∧ (Q (.inr v_6) h_4)) (jth Q)))))
theorem w_X1_drop_24 {D : JD} {d : Nat} {Q : JO → JH → Prop} {r0 : Nat} {s0 : Int32} {h : JH} (w : W_X1_drop_24 D d Q r0 s0 h) : JW D (d + 1) mX1_drop 24 [some (vR 1 r0), none, none, none] [vI s0] h Q := by
  unfold W_X1_drop_24 at w
  refine jw_istore_n (pc' := 25) (ls' := [some (vR 1 r0), some (vI s0), none, none]) rfl (by decide) rfl ?_
  refine jw_iload_n (pc' := 26) rfl rfl ?_
  refine jw_bipush (pc' := 28) (x := (83 : Int32)) rfl rfl ?_
  refine jw_icmp_eq (tgt := 42) (pc' := 31) rfl rfl (fun c_1 => ?_) (fun c_1 => ?_)
  · replace w := w.1 c_1
    exact w_X1_drop_42 w
  · replace w := w.2 c_1
    refine jw_iload_n (pc' := 32) rfl rfl ?_
    refine jw_bipush (pc' := 34) (x := (80 : Int32)) rfl rfl ?_
    refine jw_icmp_eq (tgt := 42) (pc' := 37) rfl rfl (fun c_2 => ?_) (fun c_2 => ?_)
    · replace w := w.1 c_2
      exact w_X1_drop_42 w
    · replace w := w.2 c_2
      refine jw_aload_n (pc' := 38) rfl rfl ?_
      obtain ⟨g_3, w⟩ := w
      refine jw_cR (st := []) (sa := [vR 1 r0]) okX1_protocol rfl rfl rfl rfl rfl rfl (jstp_virtual (sa := []) (st := []) (k := 0) rfl rfl sX1_protocol okX1_protocol g_3 (one1.k g_3) rfl rfl) w (fun v_6 h_4 _ _ _ w => ?_)
      obtain ⟨g_7, w⟩ := w
      exact jw_athrow rfl rfl g_7 w
def W_X1_drop_0 (D : JD) (d : Nat) (Q : JO → JH → Prop) (r0 : Nat) (h : JH) : Prop :=
  r0 ≠ 0 ∧ (((jfi h 14 r0) ≤ (jfi h 13 r0) → W_X1_drop_24 D d Q r0 (0 : Int32) h) ∧ (¬ (jfi h 14 r0) ≤ (jfi h 13 r0) → (jfr h 2 r0) ≠ 0 ∧ jin (jfi h 13 r0) (jln h (jfr h 2 r0)) ∧ (W_X1_drop_24 D d Q r0 (jai h (jfr h 2 r0) (ixn (jfi h 13 r0))) h)))
theorem w_X1_drop_0 {D : JD} {d : Nat} {Q : JO → JH → Prop} {r0 : Nat} {h : JH} (w : W_X1_drop_0 D d Q r0 h) : JW D (d + 1) mX1_drop 0 [some (vR 1 r0), none, none, none] [] h Q := by
  unfold W_X1_drop_0 at w
  refine jw_aload_n (pc' := 1) rfl rfl ?_
  obtain ⟨g_1, w⟩ := w
  refine jw_getI (pc' := 4) (F := 13) rfl rfl rfl rfl g_1 ?_
  refine jw_aload_n (pc' := 5) rfl rfl ?_
  refine jw_getI (pc' := 8) (F := 14) rfl rfl rfl rfl g_1 ?_
  refine jw_icmp_ge (tgt := 23) (pc' := 11) rfl rfl (fun c_2 => ?_) (fun c_2 => ?_)
  · replace w := w.1 c_2
    refine jw_iconst (pc' := 24) (x := (0 : Int32)) rfl rfl ?_
    exact w_X1_drop_24 w
  · replace w := w.2 c_2
    refine jw_aload_n (pc' := 12) rfl rfl ?_
    refine jw_getR (pc' := 15) (F := 2) (t' := 123) rfl rfl rfl rfl rfl g_1 ?_
    refine jw_aload_n (pc' := 16) rfl rfl ?_
    refine jw_getI (pc' := 19) (F := 13) rfl rfl rfl rfl g_1 ?_
    obtain ⟨g_3, w⟩ := w
    obtain ⟨g_4, w⟩ := w
    refine jw_bald (pc' := 20) rfl rfl rfl rfl g_3 g_4.ix g_4.2 ?_
    refine jw_goto (pc' := 24) rfl rfl ?_
    exact w_X1_drop_24 w
def T_X1_drop (D : JD) (d : Nat) (Q : JO → JH → Prop) (r0 : Nat) (h : JH) : Prop := W_X1_drop_0 D d Q r0 h
theorem t_X1_drop {D : JD} {d : Nat} {Q : JO → JH → Prop} {r0 : Nat} {h : JH} (w : T_X1_drop D d Q r0 h) : cX1_drop D (d + 1) r0 h Q := by
  unfold T_X1_drop at w
  unfold cX1_drop
  exact w_X1_drop_0 w
def W_X1_sync_0 (D : JD) (d : Nat) (Q : JO → JH → Prop) (r0 : Nat) (h : JH) : Prop :=
  r0 ≠ 0 ∧ (cX1_all D d r0 h (pV D h (fun h_2 => ∀ h_5 : JH, h_5 = wfi h_2 12 r0 (0 : Int32) → (cX1_settle D d r0 h_5 (pV D h_5 (fun h_7 => cX1_ready D d r0 h_7 (pV D h_7 (fun h_10 => Q (.inl none) h_10) (jth Q))) (jth Q)))) (jth Q)))
theorem w_X1_sync_0 {D : JD} {d : Nat} {Q : JO → JH → Prop} {r0 : Nat} {h : JH} (w : W_X1_sync_0 D d Q r0 h) : JW D (d + 1) mX1_sync 0 [some (vR 1 r0)] [] h Q := by
  unfold W_X1_sync_0 at w
  refine jw_aload_n (pc' := 1) rfl rfl ?_
  obtain ⟨g_1, w⟩ := w
  refine jw_cV (st := []) (sa := [vR 1 r0]) okX1_all rfl rfl rfl rfl rfl rfl (jstp_virtual (sa := []) (st := []) (k := 0) rfl rfl sX1_all okX1_all g_1 (one1.k g_1) rfl rfl) w (fun h_2 _ _ w => ?_)
  refine jw_aload_n (pc' := 5) rfl rfl ?_
  refine jw_iconst (pc' := 6) (x := (0 : Int32)) rfl rfl ?_
  refine jw_putI' (pc' := 9) (F := 12) rfl rfl rfl (Or.inr rfl) (Or.inl rfl) rfl (rfl) (rfl) rfl g_1 (fun h_5 e_6 => ?_)
  replace w := w h_5 e_6
  refine jw_aload_n (pc' := 10) rfl rfl ?_
  refine jw_cV (st := []) (sa := [vR 1 r0]) okX1_settle rfl rfl rfl rfl rfl rfl (jstp_virtual (sa := []) (st := []) (k := 0) rfl rfl sX1_settle okX1_settle g_1 (one1.k g_1) rfl rfl) w (fun h_7 _ _ w => ?_)
  refine jw_aload_n (pc' := 14) rfl rfl ?_
  refine jw_cV (st := []) (sa := [vR 1 r0]) okX1_ready rfl rfl rfl rfl rfl rfl (jstp_virtual (sa := []) (st := []) (k := 0) rfl rfl sX1_ready okX1_ready g_1 (one1.k g_1) rfl rfl) w (fun h_10 _ _ w => ?_)
  exact jw_return rfl rfl w
def T_X1_sync (D : JD) (d : Nat) (Q : JO → JH → Prop) (r0 : Nat) (h : JH) : Prop := W_X1_sync_0 D d Q r0 h
theorem t_X1_sync {D : JD} {d : Nat} {Q : JO → JH → Prop} {r0 : Nat} {h : JH} (w : T_X1_sync D d Q r0 h) : cX1_sync D (d + 1) r0 h Q := by
  unfold T_X1_sync at w
  unfold cX1_sync
  exact w_X1_sync_0 w
def W_X1_settle_0 (D : JD) (d : Nat) (Q : JO → JH → Prop) (r0 : Nat) (h : JH) : Prop :=
  r0 ≠ 0 ∧ ((jfr h 7 r0) ≠ 0 ∧ (((jfi h 36 (jfr h 7 r0)) = 0 → cX3_save D d (jfr h 7 r0) h (pV D h (fun h_4 => cX1_dropPortals D d r0 h_4 (pV D h_4 (fun h_7 => Q (.inl none) h_7) (jth Q))) (jth Q))) ∧ (¬ (jfi h 36 (jfr h 7 r0)) = 0 → Q (.inl none) h)))
theorem w_X1_settle_0 {D : JD} {d : Nat} {Q : JO → JH → Prop} {r0 : Nat} {h : JH} (w : W_X1_settle_0 D d Q r0 h) : JW D (d + 1) mX1_settle 0 [some (vR 1 r0)] [] h Q := by
  unfold W_X1_settle_0 at w
  refine jw_aload_n (pc' := 1) rfl rfl ?_
  obtain ⟨g_1, w⟩ := w
  refine jw_getR (pc' := 4) (F := 7) (t' := 3) rfl rfl rfl rfl rfl g_1 ?_
  obtain ⟨g_2, w⟩ := w
  refine jw_getI (pc' := 7) (F := 36) rfl rfl rfl rfl g_2 ?_
  refine jw_if_eq (tgt := 11) (pc' := 10) rfl rfl (fun c_3 => ?_) (fun c_3 => ?_)
  · replace w := w.1 c_3
    refine jw_aload_n (pc' := 12) rfl rfl ?_
    refine jw_getR (pc' := 15) (F := 7) (t' := 3) rfl rfl rfl rfl rfl g_1 ?_
    refine jw_cV (st := []) (sa := [vR 3 (jfr h 7 r0)]) okX3_save rfl rfl rfl rfl rfl rfl (jstp_virtual (sa := []) (st := []) (k := 0) rfl rfl sX3_save okX3_save g_2 (one3.k g_2) rfl rfl) w (fun h_4 _ _ w => ?_)
    refine jw_aload_n (pc' := 19) rfl rfl ?_
    refine jw_cV (st := []) (sa := [vR 1 r0]) okX1_dropPortals rfl rfl rfl rfl rfl rfl (jstp_virtual (sa := []) (st := []) (k := 0) rfl rfl sX1_dropPortals okX1_dropPortals g_1 (one1.k g_1) rfl rfl) w (fun h_7 _ _ w => ?_)
    exact jw_return rfl rfl w
  · replace w := w.2 c_3
    exact jw_return rfl rfl w
def T_X1_settle (D : JD) (d : Nat) (Q : JO → JH → Prop) (r0 : Nat) (h : JH) : Prop := W_X1_settle_0 D d Q r0 h
theorem t_X1_settle {D : JD} {d : Nat} {Q : JO → JH → Prop} {r0 : Nat} {h : JH} (w : T_X1_settle D d Q r0 h) : cX1_settle D (d + 1) r0 h Q := by
  unfold T_X1_settle at w
  unfold cX1_settle
  exact w_X1_settle_0 w
def W_X1_gone_0 (D : JD) (d : Nat) (Q : JO → JH → Prop) (r0 : Nat) (x1 : Int32) (h : JH) : Prop :=
  r0 ≠ 0 ∧ ((jfr h 2 r0) ≠ 0 ∧ jcpy h (jfr h 2 r0) x1 (jfr h 2 r0) (0 : Int32) ((jfi h 3 r0) - x1) ∧ ∀ h_4 : JH, h_4 = cpa h (jfr h 2 r0) (ixn x1) (jfr h 2 r0) (ixn (0 : Int32)) (ixn ((jfi h 3 r0) - x1)) → (∀ h_6 : JH, h_6 = wfi h_4 3 r0 ((jfi h_4 3 r0) - x1) → (Q (.inl none) h_6)))
theorem w_X1_gone_0 {D : JD} {d : Nat} {Q : JO → JH → Prop} {r0 : Nat} {x1 : Int32} {h : JH} (w : W_X1_gone_0 D d Q r0 x1 h) : JW D (d + 1) mX1_gone 0 [some (vR 1 r0), some (vI x1)] [] h Q := by
  unfold W_X1_gone_0 at w
  refine jw_aload_n (pc' := 1) rfl rfl ?_
  obtain ⟨g_1, w⟩ := w
  refine jw_getR (pc' := 4) (F := 2) (t' := 123) rfl rfl rfl rfl rfl g_1 ?_
  refine jw_iload_n (pc' := 5) rfl rfl ?_
  refine jw_aload_n (pc' := 6) rfl rfl ?_
  refine jw_getR (pc' := 9) (F := 2) (t' := 123) rfl rfl rfl rfl rfl g_1 ?_
  refine jw_iconst (pc' := 10) (x := (0 : Int32)) rfl rfl ?_
  refine jw_aload_n (pc' := 11) rfl rfl ?_
  refine jw_getI (pc' := 14) (F := 3) rfl rfl rfl rfl g_1 ?_
  refine jw_iload_n (pc' := 15) rfl rfl ?_
  refine jw_isub (pc' := 16) rfl ?_
  obtain ⟨g_2, w⟩ := w
  obtain ⟨g_3, w⟩ := w
  refine jw_acopy' (pc' := 19) rfl (lw_g (jtb_mem (c := 14) (i := 167) rfl) rfl) rfl g_2 g_2 g_3 (fun h_4 e_5 => ?_)
  replace w := w h_4 e_5
  refine jw_aload_n (pc' := 20) rfl rfl ?_
  refine jw_dup (pc' := 21) rfl rfl ?_
  refine jw_getI (pc' := 24) (F := 3) rfl rfl rfl rfl g_1 ?_
  refine jw_iload_n (pc' := 25) rfl rfl ?_
  refine jw_isub (pc' := 26) rfl ?_
  refine jw_putI' (pc' := 29) (F := 3) rfl rfl rfl (Or.inr rfl) (Or.inl rfl) rfl (rfl) (rfl) rfl g_1 (fun h_6 e_7 => ?_)
  replace w := w h_6 e_7
  exact jw_return rfl rfl w
def T_X1_gone (D : JD) (d : Nat) (Q : JO → JH → Prop) (r0 : Nat) (x1 : Int32) (h : JH) : Prop := W_X1_gone_0 D d Q r0 x1 h
theorem t_X1_gone {D : JD} {d : Nat} {Q : JO → JH → Prop} {r0 : Nat} {x1 : Int32} {h : JH} (w : T_X1_gone D d Q r0 x1 h) : cX1_gone D (d + 1) r0 x1 h Q := by
  unfold T_X1_gone at w
  unfold cX1_gone
  exact w_X1_gone_0 w
def W_X1_hash_4 (D : JD) (d : Nat) (Q : JO → JH → Prop) (K4 : Nat → Int32 → Int32 → JH → Prop) (r0 : Nat) (x1 : Int32) (x2 : Int32) (h : JH) : Prop :=
  r0 ≠ 0 ∧ ((jfr h 4 r0) ≠ 0 ∧ (((jfi h 18 (jfr h 4 r0)) ≤ x2 → Q (.inl (some (vI x1))) h) ∧ (¬ (jfi h 18 (jfr h 4 r0)) ≤ x2 → (jfr h 17 (jfr h 4 r0)) ≠ 0 ∧ jin x2 (jln h (jfr h 17 (jfr h 4 r0))) ∧ (K4 r0 (((31 : Int32) * x1) + ((jai h (jfr h 17 (jfr h 4 r0)) (ixn x2)) &&& (255 : Int32))) (x2 + (1 : Int32)) h))))
theorem w_X1_hash_4 {D : JD} {d : Nat} {Q : JO → JH → Prop} {K4 : Nat → Int32 → Int32 → JH → Prop} {r0 : Nat} {x1 : Int32} {x2 : Int32} {h : JH} (hK4 : ∀ (r0 : Nat) (x1 : Int32) (x2 : Int32) (h : JH), K4 r0 x1 x2 h → JW D (d + 1) mX1_hash 4 [some (vR 1 r0), some (vI x1), some (vI x2)] [] h Q) (w : W_X1_hash_4 D d Q K4 r0 x1 x2 h) : JW D (d + 1) mX1_hash 4 [some (vR 1 r0), some (vI x1), some (vI x2)] [] h Q := by
  unfold W_X1_hash_4 at w
  refine jw_iload_n (pc' := 5) rfl rfl ?_
  refine jw_aload_n (pc' := 6) rfl rfl ?_
  obtain ⟨g_1, w⟩ := w
  refine jw_getR (pc' := 9) (F := 4) (t' := 112) rfl rfl rfl rfl rfl g_1 ?_
  obtain ⟨g_2, w⟩ := w
  refine jw_getI (pc' := 12) (F := 18) rfl rfl rfl rfl g_2 ?_
  refine jw_icmp_ge (tgt := 40) (pc' := 15) rfl rfl (fun c_3 => ?_) (fun c_3 => ?_)
  · replace w := w.1 c_3
    refine jw_iload_n (pc' := 41) rfl rfl ?_
    exact jw_ireturn rfl rfl (rfl) w
  · replace w := w.2 c_3
    refine jw_bipush (pc' := 17) (x := (31 : Int32)) rfl rfl ?_
    refine jw_iload_n (pc' := 18) rfl rfl ?_
    refine jw_imul (pc' := 19) rfl ?_
    refine jw_aload_n (pc' := 20) rfl rfl ?_
    refine jw_getR (pc' := 23) (F := 4) (t' := 112) rfl rfl rfl rfl rfl g_1 ?_
    refine jw_getR (pc' := 26) (F := 17) (t' := 127) rfl rfl rfl rfl rfl g_2 ?_
    refine jw_iload_n (pc' := 27) rfl rfl ?_
    obtain ⟨g_4, w⟩ := w
    obtain ⟨g_5, w⟩ := w
    refine jw_bald (pc' := 28) rfl rfl rfl rfl g_4 g_5.ix g_5.2 ?_
    refine jw_sipush (pc' := 31) (x := (255 : Int32)) rfl rfl ?_
    refine jw_iand (pc' := 32) rfl ?_
    refine jw_iadd (pc' := 33) rfl ?_
    refine jw_istore_n (pc' := 34) (ls' := [some (vR 1 r0), some (vI (((31 : Int32) * x1) + ((jai h (jfr h 17 (jfr h 4 r0)) (ixn x2)) &&& (255 : Int32)))), some (vI x2)]) rfl (by decide) rfl ?_
    refine jw_iinc (pc' := 37) (y := x2 + (1 : Int32)) (ls' := [some (vR 1 r0), some (vI (((31 : Int32) * x1) + ((jai h (jfr h 17 (jfr h 4 r0)) (ixn x2)) &&& (255 : Int32)))), some (vI (x2 + (1 : Int32)))]) rfl (by decide) rfl rfl rfl ?_
    refine jw_goto (pc' := 4) rfl rfl ?_
    exact hK4 _ _ _ _ w
def L_X1_hash_4 (D : JD) (d : Nat) (Q : JO → JH → Prop) : Nat → Nat → Int32 → Int32 → JH → Prop
  | 0 => fun _ _ _ _ => False
  | n + 1 => fun r0 x1 x2 h => W_X1_hash_4 D d Q (L_X1_hash_4 D d Q n) r0 x1 x2 h
theorem l_X1_hash_4 {D : JD} {d : Nat} {Q : JO → JH → Prop} : ∀ (n : Nat) (r0 : Nat) (x1 : Int32) (x2 : Int32) (h : JH), L_X1_hash_4 D d Q n r0 x1 x2 h → JW D (d + 1) mX1_hash 4 [some (vR 1 r0), some (vI x1), some (vI x2)] [] h Q := by
  intro n
  induction n with
  | zero => intro _ _ _ _ w; exact w.elim
  | succ n ih => intro _ _ _ h w; exact w_X1_hash_4 ih w
def W_X1_hash_0 (D : JD) (d : Nat) (Q : JO → JH → Prop) (r0 : Nat) (h : JH) : Prop :=
  ∃ n, L_X1_hash_4 D d Q n r0 (1 : Int32) (0 : Int32) h
theorem w_X1_hash_0 {D : JD} {d : Nat} {Q : JO → JH → Prop} {r0 : Nat} {h : JH} (w : W_X1_hash_0 D d Q r0 h) : JW D (d + 1) mX1_hash 0 [some (vR 1 r0), none, none] [] h Q := by
  unfold W_X1_hash_0 at w
  refine jw_iconst (pc' := 1) (x := (1 : Int32)) rfl rfl ?_
  refine jw_istore_n (pc' := 2) (ls' := [some (vR 1 r0), some (vI (1 : Int32)), none]) rfl (by decide) rfl ?_
  refine jw_iconst (pc' := 3) (x := (0 : Int32)) rfl rfl ?_
  refine jw_istore_n (pc' := 4) (ls' := [some (vR 1 r0), some (vI (1 : Int32)), some (vI (0 : Int32))]) rfl (by decide) rfl ?_
  obtain ⟨n, w⟩ := w
  exact l_X1_hash_4 n _ _ _ _ w
def T_X1_hash (D : JD) (d : Nat) (Q : JO → JH → Prop) (r0 : Nat) (h : JH) : Prop := W_X1_hash_0 D d Q r0 h
theorem t_X1_hash {D : JD} {d : Nat} {Q : JO → JH → Prop} {r0 : Nat} {h : JH} (w : T_X1_hash D d Q r0 h) : cX1_hash D (d + 1) r0 h Q := by
  unfold T_X1_hash at w
  unfold cX1_hash
  exact w_X1_hash_0 w
def W_X1_feed_53 (D : JD) (d : Nat) (Q : JO → JH → Prop) (K53 : Nat → Nat → Int32 → JH → Prop) (r0 : Nat) (r6 : Nat) (x7 : Int32) (h : JH) : Prop :=
  ((20 : Int32) ≤ x7 → r0 ≠ 0 ∧ (∀ h_3 : JH, h_3 = wfi h 1 r0 ((jfi h 1 r0) + (20 : Int32)) → (Q (.inl (some (vI (jfi h_3 1 r0)))) h_3))) ∧ (¬ (20 : Int32) ≤ x7 → r0 ≠ 0 ∧ (r6 ≠ 0 ∧ jin (x7 / (4 : Int32)) (jln h r6) ∧ ((jfr h 0 r0) ≠ 0 ∧ jin ((jfi h 1 r0) + x7) (jln h (jfr h 0 r0)) ∧ ∀ h_10 : JH, h_10 = wai h (jfr h 0 r0) (ixn ((jfi h 1 r0) + x7)) ((Int32.toInt8 ((Int32.toInt8 ((jai h r6 (ixn (x7 / (4 : Int32)))) >>> (((24 : Int32) - ((8 : Int32) * (x7 - x7 / (4 : Int32) * (4 : Int32)))) &&& 31))).toInt32)).toInt32) → (K53 r0 r6 (x7 + (1 : Int32)) h_10))))
theorem w_X1_feed_53 {D : JD} {d : Nat} {Q : JO → JH → Prop} {K53 : Nat → Nat → Int32 → JH → Prop} {r0 : Nat} {r6 : Nat} {x7 : Int32} {h : JH} (hK53 : ∀ (r0 : Nat) (r6 : Nat) (x7 : Int32) (h : JH), K53 r0 r6 x7 h → JW D (d + 1) mX1_feed 53 [some (vR 1 r0), none, none, none, none, none, some (vR 68 r6), some (vI x7)] [] h Q) (w : W_X1_feed_53 D d Q K53 r0 r6 x7 h) : JW D (d + 1) mX1_feed 53 [some (vR 1 r0), none, none, none, none, none, some (vR 68 r6), some (vI x7)] [] h Q := by
  unfold W_X1_feed_53 at w
  refine jw_iload (pc' := 55) rfl rfl ?_
  refine jw_bipush (pc' := 57) (x := (20 : Int32)) rfl rfl ?_
  refine jw_icmp_ge (tgt := 97) (pc' := 60) rfl rfl (fun c_1 => ?_) (fun c_1 => ?_)
  · replace w := w.1 c_1
    refine jw_aload_n (pc' := 98) rfl rfl ?_
    refine jw_dup (pc' := 99) rfl rfl ?_
    obtain ⟨g_2, w⟩ := w
    refine jw_getI (pc' := 102) (F := 1) rfl rfl rfl rfl g_2 ?_
    refine jw_bipush (pc' := 104) (x := (20 : Int32)) rfl rfl ?_
    refine jw_iadd (pc' := 105) rfl ?_
    refine jw_putI' (pc' := 108) (F := 1) rfl rfl rfl (Or.inr rfl) (Or.inl rfl) rfl (rfl) (rfl) rfl g_2 (fun h_3 e_4 => ?_)
    replace w := w h_3 e_4
    refine jw_aload_n (pc' := 109) rfl rfl ?_
    refine jw_getI (pc' := 112) (F := 1) rfl rfl rfl rfl g_2 ?_
    exact jw_ireturn rfl rfl (rfl) w
  · replace w := w.2 c_1
    refine jw_aload_n (pc' := 61) rfl rfl ?_
    obtain ⟨g_5, w⟩ := w
    refine jw_getR (pc' := 64) (F := 0) (t' := 122) rfl rfl rfl rfl rfl g_5 ?_
    refine jw_aload_n (pc' := 65) rfl rfl ?_
    refine jw_getI (pc' := 68) (F := 1) rfl rfl rfl rfl g_5 ?_
    refine jw_iload (pc' := 70) rfl rfl ?_
    refine jw_iadd (pc' := 71) rfl ?_
    refine jw_aload (pc' := 73) rfl rfl ?_
    refine jw_iload (pc' := 75) rfl rfl ?_
    refine jw_iconst (pc' := 76) (x := (4 : Int32)) rfl rfl ?_
    refine jw_idiv (pc' := 77) rfl (by decide) ?_
    obtain ⟨g_6, w⟩ := w
    obtain ⟨g_7, w⟩ := w
    refine jw_iald (pc' := 78) rfl rfl rfl rfl g_6 g_7.ix g_7.2 ?_
    refine jw_bipush (pc' := 80) (x := (24 : Int32)) rfl rfl ?_
    refine jw_bipush (pc' := 82) (x := (8 : Int32)) rfl rfl ?_
    refine jw_iload (pc' := 84) rfl rfl ?_
    refine jw_iconst (pc' := 85) (x := (4 : Int32)) rfl rfl ?_
    refine jw_irem (pc' := 86) rfl (by decide) ?_
    refine jw_imul (pc' := 87) rfl ?_
    refine jw_isub (pc' := 88) rfl ?_
    refine jw_ishr (pc' := 89) rfl ?_
    refine jw_i2b (pc' := 90) rfl ?_
    obtain ⟨g_8, w⟩ := w
    obtain ⟨g_9, w⟩ := w
    refine jw_bast' (pc' := 91) rfl rfl rfl rfl rfl g_8 g_9 (fun h_10 e_11 => ?_)
    replace w := w h_10 e_11
    refine jw_iinc (pc' := 94) (y := x7 + (1 : Int32)) (ls' := [some (vR 1 r0), none, none, none, none, none, some (vR 68 r6), some (vI (x7 + (1 : Int32)))]) rfl (by decide) rfl rfl rfl ?_
    refine jw_goto (pc' := 53) rfl rfl ?_
    exact hK53 _ _ _ _ w
def L_X1_feed_53 (D : JD) (d : Nat) (Q : JO → JH → Prop) : Nat → Nat → Nat → Int32 → JH → Prop
  | 0 => fun _ _ _ _ => False
  | n + 1 => fun r0 r6 x7 h => W_X1_feed_53 D d Q (L_X1_feed_53 D d Q n) r0 r6 x7 h
theorem l_X1_feed_53 {D : JD} {d : Nat} {Q : JO → JH → Prop} : ∀ (n : Nat) (r0 : Nat) (r6 : Nat) (x7 : Int32) (h : JH), L_X1_feed_53 D d Q n r0 r6 x7 h → JW D (d + 1) mX1_feed 53 [some (vR 1 r0), none, none, none, none, none, some (vR 68 r6), some (vI x7)] [] h Q := by
  intro n
  induction n with
  | zero => intro _ _ _ _ w; exact w.elim
  | succ n ih => intro _ _ _ h w; exact w_X1_feed_53 ih w
def W_X1_feed_0 (D : JD) (d : Nat) (Q : JO → JH → Prop) (r0 : Nat) (x1 : Int32) (x2 : Int32) (x3 : Int32) (x4 : Int32) (x5 : Int32) (h : JH) : Prop :=
  r0 ≠ 0 ∧ ((jfr h 0 r0) ≠ 0 ∧ ((((jfi h 1 r0) + (20 : Int32)) ≤ (nI (jln h (jfr h 0 r0))) → ∀ (r_4 : Nat) (h_5 : JH), r_4 = jsz h + 1 → h_5 = nwa h 68 5 → (jin (0 : Int32) (jln h_5 r_4) ∧ ∀ h_9 : JH, h_9 = wai h_5 r_4 (ixn (0 : Int32)) x1 → (jin (1 : Int32) (jln h_9 r_4) ∧ ∀ h_12 : JH, h_12 = wai h_9 r_4 (ixn (1 : Int32)) x2 → (jin (2 : Int32) (jln h_12 r_4) ∧ ∀ h_15 : JH, h_15 = wai h_12 r_4 (ixn (2 : Int32)) x3 → (jin (3 : Int32) (jln h_15 r_4) ∧ ∀ h_18 : JH, h_18 = wai h_15 r_4 (ixn (3 : Int32)) x4 → (jin (4 : Int32) (jln h_18 r_4) ∧ ∀ h_21 : JH, h_21 = wai h_18 r_4 (ixn (4 : Int32)) x5 → (∃ n, L_X1_feed_53 D d Q n r0 r_4 (0 : Int32) h_21))))))) ∧ (¬ ((jfi h 1 r0) + (20 : Int32)) ≤ (nI (jln h (jfr h 0 r0))) → ∀ (r_23 : Nat) (h_24 : JH), r_23 = jsz h + 1 → h_24 = nwo h 39 6 → (jkd h_24 r_23 = 39 ∧ jfi h_24 330 r_23 = 0 ∧ 6 ≤ d + 1 ∧ ∀ h_30 : JH, h_30 = wfi h_24 330 r_23 1 → (Q (.inr r_23) h_30)))))
theorem w_X1_feed_0 {D : JD} {d : Nat} {Q : JO → JH → Prop} {r0 : Nat} {x1 : Int32} {x2 : Int32} {x3 : Int32} {x4 : Int32} {x5 : Int32} {h : JH} (w : W_X1_feed_0 D d Q r0 x1 x2 x3 x4 x5 h) : JW D (d + 1) mX1_feed 0 [some (vR 1 r0), some (vI x1), some (vI x2), some (vI x3), some (vI x4), some (vI x5), none, none] [] h Q := by
  unfold W_X1_feed_0 at w
  refine jw_aload_n (pc' := 1) rfl rfl ?_
  obtain ⟨g_1, w⟩ := w
  refine jw_getI (pc' := 4) (F := 1) rfl rfl rfl rfl g_1 ?_
  refine jw_bipush (pc' := 6) (x := (20 : Int32)) rfl rfl ?_
  refine jw_iadd (pc' := 7) rfl ?_
  refine jw_aload_n (pc' := 8) rfl rfl ?_
  refine jw_getR (pc' := 11) (F := 0) (t' := 122) rfl rfl rfl rfl rfl g_1 ?_
  obtain ⟨g_2, w⟩ := w
  refine jw_alen (pc' := 12) rfl rfl g_2 ?_
  refine jw_icmp_le (tgt := 23) (pc' := 15) rfl rfl (fun c_3 => ?_) (fun c_3 => ?_)
  · replace w := w.1 c_3
    refine jw_iconst (pc' := 24) (x := (5 : Int32)) rfl rfl ?_
    refine jw_newa' (pc' := 26) (n := 5) (k := 68) rfl rfl rfl rfl rfl rfl (lw_g (jtb_mem (c := 2) (i := 11) rfl) rfl) ⟨by decide, rfl⟩ (by decide) (fun r_4 h_5 e_6 e_7 => ?_)
    replace w := w r_4 h_5 e_6 e_7
    refine jw_dup (pc' := 27) rfl rfl ?_
    refine jw_iconst (pc' := 28) (x := (0 : Int32)) rfl rfl ?_
    refine jw_iload_n (pc' := 29) rfl rfl ?_
    obtain ⟨g_8, w⟩ := w
    refine jw_iast' (pc' := 30) rfl rfl rfl rfl rfl (jnz e_6) g_8 (fun h_9 e_10 => ?_)
    replace w := w h_9 e_10
    refine jw_dup (pc' := 31) rfl rfl ?_
    refine jw_iconst (pc' := 32) (x := (1 : Int32)) rfl rfl ?_
    refine jw_iload_n (pc' := 33) rfl rfl ?_
    obtain ⟨g_11, w⟩ := w
    refine jw_iast' (pc' := 34) rfl rfl rfl rfl rfl (jnz e_6) g_11 (fun h_12 e_13 => ?_)
    replace w := w h_12 e_13
    refine jw_dup (pc' := 35) rfl rfl ?_
    refine jw_iconst (pc' := 36) (x := (2 : Int32)) rfl rfl ?_
    refine jw_iload_n (pc' := 37) rfl rfl ?_
    obtain ⟨g_14, w⟩ := w
    refine jw_iast' (pc' := 38) rfl rfl rfl rfl rfl (jnz e_6) g_14 (fun h_15 e_16 => ?_)
    replace w := w h_15 e_16
    refine jw_dup (pc' := 39) rfl rfl ?_
    refine jw_iconst (pc' := 40) (x := (3 : Int32)) rfl rfl ?_
    refine jw_iload (pc' := 42) rfl rfl ?_
    obtain ⟨g_17, w⟩ := w
    refine jw_iast' (pc' := 43) rfl rfl rfl rfl rfl (jnz e_6) g_17 (fun h_18 e_19 => ?_)
    replace w := w h_18 e_19
    refine jw_dup (pc' := 44) rfl rfl ?_
    refine jw_iconst (pc' := 45) (x := (4 : Int32)) rfl rfl ?_
    refine jw_iload (pc' := 47) rfl rfl ?_
    obtain ⟨g_20, w⟩ := w
    refine jw_iast' (pc' := 48) rfl rfl rfl rfl rfl (jnz e_6) g_20 (fun h_21 e_22 => ?_)
    replace w := w h_21 e_22
    refine jw_astore (pc' := 50) (ls' := [some (vR 1 r0), some (vI x1), some (vI x2), some (vI x3), some (vI x4), some (vI x5), some (vR 68 r_4), none]) rfl (by decide) rfl ?_
    refine jw_iconst (pc' := 51) (x := (0 : Int32)) rfl rfl ?_
    refine jw_istore (pc' := 53) (ls' := [some (vR 1 r0), some (vI x1), some (vI x2), some (vI x3), some (vI x4), some (vI x5), some (vR 68 r_4), some (vI (0 : Int32))]) rfl (by decide) rfl ?_
    refine jw_gen (ls' := [some (vR 1 r0), none, none, none, none, none, some (vR 68 r_4), some (vI (0 : Int32))]) (st' := []) (And.intro (Or.inl rfl) (And.intro (Or.inl rfl) (And.intro (Or.inl rfl) (trivial)))) (trivial) ?_
    obtain ⟨n, w⟩ := w
    exact l_X1_feed_53 n _ _ _ _ w
  · replace w := w.2 c_3
    refine jw_new' (pc' := 18) (k := 39) (n := 6) rfl rfl rfl rfl rfl rfl rfl (fun r_23 h_24 e_25 e_26 => ?_)
    replace w := w r_23 h_24 e_25 e_26
    refine jw_dup (pc' := 19) rfl rfl ?_
    obtain ⟨g_27, w⟩ := w
    obtain ⟨g_28, w⟩ := w
    obtain ⟨g_29, w⟩ := w
    refine jw_exc39' (pc' := 22) rfl g_27 g_28 g_29 rfl (jnz e_25) (lw_g (jtb_mem (c := 14) (i := 207) rfl) rfl) (fun h_30 e_31 => ?_)
    replace w := w h_30 e_31
    exact jw_athrow rfl rfl (jnz e_25) w
def T_X1_feed (D : JD) (d : Nat) (Q : JO → JH → Prop) (r0 : Nat) (x1 : Int32) (x2 : Int32) (x3 : Int32) (x4 : Int32) (x5 : Int32) (h : JH) : Prop := W_X1_feed_0 D d Q r0 x1 x2 x3 x4 x5 h
theorem t_X1_feed {D : JD} {d : Nat} {Q : JO → JH → Prop} {r0 : Nat} {x1 : Int32} {x2 : Int32} {x3 : Int32} {x4 : Int32} {x5 : Int32} {h : JH} (w : T_X1_feed D d Q r0 x1 x2 x3 x4 x5 h) : cX1_feed D (d + 1) r0 x1 x2 x3 x4 x5 h Q := by
  unfold T_X1_feed at w
  unfold cX1_feed
  exact w_X1_feed_0 w
def W_X1_end_12 (D : JD) (d : Nat) (Q : JO → JH → Prop) (h : JH) : Prop :=
  ∀ (r_1 : Nat) (h_2 : JH), r_1 = jsz h + 1 → h_2 = nwo h 13 6 → (jkd h_2 r_1 = 13 ∧ jfi h_2 330 r_1 = 0 ∧ 6 ≤ d + 1 ∧ ∀ h_8 : JH, h_8 = wfi h_2 330 r_1 1 → (Q (.inr r_1) h_8))
theorem w_X1_end_12 {D : JD} {d : Nat} {Q : JO → JH → Prop} {h : JH} (w : W_X1_end_12 D d Q h) : JW D (d + 1) mX1_end 12 [none, none] [] h Q := by
  unfold W_X1_end_12 at w
  refine jw_new' (pc' := 15) (k := 13) (n := 6) rfl rfl rfl rfl rfl rfl rfl (fun r_1 h_2 e_3 e_4 => ?_)
  replace w := w r_1 h_2 e_3 e_4
  refine jw_dup (pc' := 16) rfl rfl ?_
  obtain ⟨g_5, w⟩ := w
  obtain ⟨g_6, w⟩ := w
  obtain ⟨g_7, w⟩ := w
  refine jw_exc13' (pc' := 19) rfl g_5 g_6 g_7 rfl (jnz e_3) (lw_g (jtb_mem (c := 14) (i := 222) rfl) rfl) (fun h_8 e_9 => ?_)
  replace w := w h_8 e_9
  exact jw_athrow rfl rfl (jnz e_3) w
def W_X1_end_0 (D : JD) (d : Nat) (Q : JO → JH → Prop) (r0 : Nat) (x1 : Int32) (h : JH) : Prop :=
  (x1 < 0 → W_X1_end_12 D d Q h) ∧ (¬ x1 < 0 → r0 ≠ 0 ∧ ((x1 ≤ (jfi h 1 r0) → ∀ h_4 : JH, h_4 = wfi h 1 r0 x1 → (Q (.inl (some (vI x1))) h_4)) ∧ (¬ x1 ≤ (jfi h 1 r0) → W_X1_end_12 D d Q h)))
theorem w_X1_end_0 {D : JD} {d : Nat} {Q : JO → JH → Prop} {r0 : Nat} {x1 : Int32} {h : JH} (w : W_X1_end_0 D d Q r0 x1 h) : JW D (d + 1) mX1_end 0 [some (vR 1 r0), some (vI x1)] [] h Q := by
  unfold W_X1_end_0 at w
  refine jw_iload_n (pc' := 1) rfl rfl ?_
  refine jw_if_lt (tgt := 12) (pc' := 4) rfl rfl (fun c_1 => ?_) (fun c_1 => ?_)
  · replace w := w.1 c_1
    refine jw_gen (ls' := [none, none]) (st' := []) (trivial) (trivial) ?_
    exact w_X1_end_12 w
  · replace w := w.2 c_1
    refine jw_iload_n (pc' := 5) rfl rfl ?_
    refine jw_aload_n (pc' := 6) rfl rfl ?_
    obtain ⟨g_2, w⟩ := w
    refine jw_getI (pc' := 9) (F := 1) rfl rfl rfl rfl g_2 ?_
    refine jw_icmp_le (tgt := 20) (pc' := 12) rfl rfl (fun c_3 => ?_) (fun c_3 => ?_)
    · replace w := w.1 c_3
      refine jw_aload_n (pc' := 21) rfl rfl ?_
      refine jw_iload_n (pc' := 22) rfl rfl ?_
      refine jw_putI' (pc' := 25) (F := 1) rfl rfl rfl (Or.inr rfl) (Or.inl rfl) rfl (rfl) (rfl) rfl g_2 (fun h_4 e_5 => ?_)
      replace w := w h_4 e_5
      refine jw_iload_n (pc' := 26) rfl rfl ?_
      exact jw_ireturn rfl rfl (rfl) w
    · replace w := w.2 c_3
      refine jw_gen (ls' := [none, none]) (st' := []) (trivial) (trivial) ?_
      exact w_X1_end_12 w
def T_X1_end (D : JD) (d : Nat) (Q : JO → JH → Prop) (r0 : Nat) (x1 : Int32) (h : JH) : Prop := W_X1_end_0 D d Q r0 x1 h
theorem t_X1_end {D : JD} {d : Nat} {Q : JO → JH → Prop} {r0 : Nat} {x1 : Int32} {h : JH} (w : T_X1_end D d Q r0 x1 h) : cX1_end D (d + 1) r0 x1 h Q := by
  unfold T_X1_end at w
  unfold cX1_end
  exact w_X1_end_0 w
def W_X1_put_17 (D : JD) (d : Nat) (Q : JO → JH → Prop) (K17 : Nat → Int32 → Int32 → JH → Prop) (r0 : Nat) (x1 : Int32) (x2 : Int32) (h : JH) : Prop :=
  (x1 ≤ x2 → r0 ≠ 0 ∧ (Q (.inl (some (vI (jfi h 3 r0)))) h)) ∧ (¬ x1 ≤ x2 → r0 ≠ 0 ∧ ((jfr h 0 r0) ≠ 0 ∧ jin x2 (jln h (jfr h 0 r0)) ∧ (cX1_arrive D d r0 (jai h (jfr h 0 r0) (ixn x2)) h (pV D h (fun h_6 => K17 r0 x1 (x2 + (1 : Int32)) h_6) (jth Q)))))
theorem w_X1_put_17 {D : JD} {d : Nat} {Q : JO → JH → Prop} {K17 : Nat → Int32 → Int32 → JH → Prop} {r0 : Nat} {x1 : Int32} {x2 : Int32} {h : JH} (hK17 : ∀ (r0 : Nat) (x1 : Int32) (x2 : Int32) (h : JH), K17 r0 x1 x2 h → JW D (d + 1) mX1_put 17 [some (vR 1 r0), some (vI x1), some (vI x2)] [] h Q) (w : W_X1_put_17 D d Q K17 r0 x1 x2 h) : JW D (d + 1) mX1_put 17 [some (vR 1 r0), some (vI x1), some (vI x2)] [] h Q := by
  unfold W_X1_put_17 at w
  refine jw_iload_n (pc' := 18) rfl rfl ?_
  refine jw_iload_n (pc' := 19) rfl rfl ?_
  refine jw_icmp_ge (tgt := 38) (pc' := 22) rfl rfl (fun c_1 => ?_) (fun c_1 => ?_)
  · replace w := w.1 c_1
    refine jw_aload_n (pc' := 39) rfl rfl ?_
    obtain ⟨g_2, w⟩ := w
    refine jw_getI (pc' := 42) (F := 3) rfl rfl rfl rfl g_2 ?_
    exact jw_ireturn rfl rfl (rfl) w
  · replace w := w.2 c_1
    refine jw_aload_n (pc' := 23) rfl rfl ?_
    refine jw_aload_n (pc' := 24) rfl rfl ?_
    obtain ⟨g_3, w⟩ := w
    refine jw_getR (pc' := 27) (F := 0) (t' := 122) rfl rfl rfl rfl rfl g_3 ?_
    refine jw_iload_n (pc' := 28) rfl rfl ?_
    obtain ⟨g_4, w⟩ := w
    obtain ⟨g_5, w⟩ := w
    refine jw_bald (pc' := 29) rfl rfl rfl rfl g_4 g_5.ix g_5.2 ?_
    refine jw_cV (st := []) (sa := [vR 1 r0, vI (jai h (jfr h 0 r0) (ixn x2))]) okX1_arrive rfl rfl rfl rfl rfl rfl (jstp_virtual (sa := [vI (jai h (jfr h 0 r0) (ixn x2))]) (st := []) (k := 0) rfl rfl sX1_arrive okX1_arrive g_3 (one1.k g_3) rfl rfl) w (fun h_6 _ _ w => ?_)
    refine jw_iinc (pc' := 35) (y := x2 + (1 : Int32)) (ls' := [some (vR 1 r0), some (vI x1), some (vI (x2 + (1 : Int32)))]) rfl (by decide) rfl rfl rfl ?_
    refine jw_goto (pc' := 17) rfl rfl ?_
    exact hK17 _ _ _ _ w
def L_X1_put_17 (D : JD) (d : Nat) (Q : JO → JH → Prop) : Nat → Nat → Int32 → Int32 → JH → Prop
  | 0 => fun _ _ _ _ => False
  | n + 1 => fun r0 x1 x2 h => W_X1_put_17 D d Q (L_X1_put_17 D d Q n) r0 x1 x2 h
theorem l_X1_put_17 {D : JD} {d : Nat} {Q : JO → JH → Prop} : ∀ (n : Nat) (r0 : Nat) (x1 : Int32) (x2 : Int32) (h : JH), L_X1_put_17 D d Q n r0 x1 x2 h → JW D (d + 1) mX1_put 17 [some (vR 1 r0), some (vI x1), some (vI x2)] [] h Q := by
  intro n
  induction n with
  | zero => intro _ _ _ _ w; exact w.elim
  | succ n ih => intro _ _ _ h w; exact w_X1_put_17 ih w
def W_X1_put_0 (D : JD) (d : Nat) (Q : JO → JH → Prop) (r0 : Nat) (h : JH) : Prop :=
  r0 ≠ 0 ∧ (∀ h_2 : JH, h_2 = wfi h 1 r0 (0 : Int32) → (cX1_room D d r0 (jfi h 1 r0) h_2 (pV D h_2 (fun h_4 => ∃ n, L_X1_put_17 D d Q n r0 (jfi h 1 r0) (0 : Int32) h_4) (jth Q))))
theorem w_X1_put_0 {D : JD} {d : Nat} {Q : JO → JH → Prop} {r0 : Nat} {h : JH} (w : W_X1_put_0 D d Q r0 h) : JW D (d + 1) mX1_put 0 [some (vR 1 r0), none, none] [] h Q := by
  unfold W_X1_put_0 at w
  refine jw_aload_n (pc' := 1) rfl rfl ?_
  obtain ⟨g_1, w⟩ := w
  refine jw_getI (pc' := 4) (F := 1) rfl rfl rfl rfl g_1 ?_
  refine jw_istore_n (pc' := 5) (ls' := [some (vR 1 r0), some (vI (jfi h 1 r0)), none]) rfl (by decide) rfl ?_
  refine jw_aload_n (pc' := 6) rfl rfl ?_
  refine jw_iconst (pc' := 7) (x := (0 : Int32)) rfl rfl ?_
  refine jw_putI' (pc' := 10) (F := 1) rfl rfl rfl (Or.inr rfl) (Or.inl rfl) rfl (rfl) (rfl) rfl g_1 (fun h_2 e_3 => ?_)
  replace w := w h_2 e_3
  refine jw_aload_n (pc' := 11) rfl rfl ?_
  refine jw_iload_n (pc' := 12) rfl rfl ?_
  refine jw_cV (st := []) (sa := [vR 1 r0, vI (jfi h 1 r0)]) okX1_room rfl rfl rfl rfl rfl rfl (jstp_virtual (sa := [vI (jfi h 1 r0)]) (st := []) (k := 0) rfl rfl sX1_room okX1_room g_1 (one1.k g_1) rfl rfl) w (fun h_4 _ _ w => ?_)
  refine jw_iconst (pc' := 16) (x := (0 : Int32)) rfl rfl ?_
  refine jw_istore_n (pc' := 17) (ls' := [some (vR 1 r0), some (vI (jfi h 1 r0)), some (vI (0 : Int32))]) rfl (by decide) rfl ?_
  obtain ⟨n, w⟩ := w
  exact l_X1_put_17 n _ _ _ _ w
def T_X1_put (D : JD) (d : Nat) (Q : JO → JH → Prop) (r0 : Nat) (h : JH) : Prop := W_X1_put_0 D d Q r0 h
theorem t_X1_put {D : JD} {d : Nat} {Q : JO → JH → Prop} {r0 : Nat} {h : JH} (w : T_X1_put D d Q r0 h) : cX1_put D (d + 1) r0 h Q := by
  unfold T_X1_put at w
  unfold cX1_put
  exact w_X1_put_0 w
def W_X1_room_0 (D : JD) (d : Nat) (Q : JO → JH → Prop) (r0 : Nat) (x1 : Int32) (h : JH) : Prop :=
  r0 ≠ 0 ∧ ((¬ (jfi h 5 r0) = (5 : Int32) → (((jfi h 3 r0) + x1) ≤ (8192 : Int32) → Q (.inl none) h) ∧ (¬ ((jfi h 3 r0) + x1) ≤ (8192 : Int32) → ∀ (r_4 : Nat) (h_5 : JH), r_4 = jsz h + 1 → h_5 = nwo h 39 6 → (jkd h_5 r_4 = 39 ∧ jfi h_5 330 r_4 = 0 ∧ 6 ≤ d + 1 ∧ ∀ h_11 : JH, h_11 = wfi h_5 330 r_4 1 → (Q (.inr r_4) h_11)))) ∧ ((jfi h 5 r0) = (5 : Int32) → ∀ (r_13 : Nat) (h_14 : JH), r_13 = jsz h + 1 → h_14 = nwo h 40 6 → (jkd h_14 r_13 = 40 ∧ jfi h_14 330 r_13 = 0 ∧ 6 ≤ d + 1 ∧ ∀ h_20 : JH, h_20 = wfi h_14 330 r_13 1 → (Q (.inr r_13) h_20))))
theorem w_X1_room_0 {D : JD} {d : Nat} {Q : JO → JH → Prop} {r0 : Nat} {x1 : Int32} {h : JH} (w : W_X1_room_0 D d Q r0 x1 h) : JW D (d + 1) mX1_room 0 [some (vR 1 r0), some (vI x1)] [] h Q := by
  unfold W_X1_room_0 at w
  refine jw_aload_n (pc' := 1) rfl rfl ?_
  obtain ⟨g_1, w⟩ := w
  refine jw_getI (pc' := 4) (F := 5) rfl rfl rfl rfl g_1 ?_
  refine jw_iconst (pc' := 5) (x := (5 : Int32)) rfl rfl ?_
  refine jw_icmp_ne (tgt := 16) (pc' := 8) rfl rfl (fun c_2 => ?_) (fun c_2 => ?_)
  · replace w := w.1 c_2
    refine jw_aload_n (pc' := 17) rfl rfl ?_
    refine jw_getI (pc' := 20) (F := 3) rfl rfl rfl rfl g_1 ?_
    refine jw_iload_n (pc' := 21) rfl rfl ?_
    refine jw_iadd (pc' := 22) rfl ?_
    refine jw_sipush (pc' := 25) (x := (8192 : Int32)) rfl rfl ?_
    refine jw_icmp_le (tgt := 36) (pc' := 28) rfl rfl (fun c_3 => ?_) (fun c_3 => ?_)
    · replace w := w.1 c_3
      exact jw_return rfl rfl w
    · replace w := w.2 c_3
      refine jw_new' (pc' := 31) (k := 39) (n := 6) rfl rfl rfl rfl rfl rfl rfl (fun r_4 h_5 e_6 e_7 => ?_)
      replace w := w r_4 h_5 e_6 e_7
      refine jw_dup (pc' := 32) rfl rfl ?_
      obtain ⟨g_8, w⟩ := w
      obtain ⟨g_9, w⟩ := w
      obtain ⟨g_10, w⟩ := w
      refine jw_exc39' (pc' := 35) rfl g_8 g_9 g_10 rfl (jnz e_6) (lw_g (jtb_mem (c := 14) (i := 207) rfl) rfl) (fun h_11 e_12 => ?_)
      replace w := w h_11 e_12
      exact jw_athrow rfl rfl (jnz e_6) w
  · replace w := w.2 c_2
    refine jw_new' (pc' := 11) (k := 40) (n := 6) rfl rfl rfl rfl rfl rfl rfl (fun r_13 h_14 e_15 e_16 => ?_)
    replace w := w r_13 h_14 e_15 e_16
    refine jw_dup (pc' := 12) rfl rfl ?_
    obtain ⟨g_17, w⟩ := w
    obtain ⟨g_18, w⟩ := w
    obtain ⟨g_19, w⟩ := w
    refine jw_exc40' (pc' := 15) rfl g_17 g_18 g_19 rfl (jnz e_15) (lw_g (jtb_mem (c := 15) (i := 7) rfl) rfl) (fun h_20 e_21 => ?_)
    replace w := w h_20 e_21
    exact jw_athrow rfl rfl (jnz e_15) w
def T_X1_room (D : JD) (d : Nat) (Q : JO → JH → Prop) (r0 : Nat) (x1 : Int32) (h : JH) : Prop := W_X1_room_0 D d Q r0 x1 h
theorem t_X1_room {D : JD} {d : Nat} {Q : JO → JH → Prop} {r0 : Nat} {x1 : Int32} {h : JH} (w : T_X1_room D d Q r0 x1 h) : cX1_room D (d + 1) r0 x1 h Q := by
  unfold T_X1_room at w
  unfold cX1_room
  exact w_X1_room_0 w
def W_X1_arrive_0 (D : JD) (d : Nat) (Q : JO → JH → Prop) (r0 : Nat) (x1 : Int32) (h : JH) : Prop :=
  r0 ≠ 0 ∧ ((jfr h 2 r0) ≠ 0 ∧ jin (jfi h 3 r0) (jln h (jfr h 2 r0)) ∧ ∀ h_4 : JH, h_4 = wai h (jfr h 2 r0) (ixn (jfi h 3 r0)) ((Int32.toInt8 ((Int32.toInt8 x1).toInt32)).toInt32) → (∀ h_6 : JH, h_6 = wfi h_4 3 r0 ((jfi h_4 3 r0) + (1 : Int32)) → (Q (.inl none) h_6)))
theorem w_X1_arrive_0 {D : JD} {d : Nat} {Q : JO → JH → Prop} {r0 : Nat} {x1 : Int32} {h : JH} (w : W_X1_arrive_0 D d Q r0 x1 h) : JW D (d + 1) mX1_arrive 0 [some (vR 1 r0), some (vI x1)] [] h Q := by
  unfold W_X1_arrive_0 at w
  refine jw_aload_n (pc' := 1) rfl rfl ?_
  obtain ⟨g_1, w⟩ := w
  refine jw_getR (pc' := 4) (F := 2) (t' := 123) rfl rfl rfl rfl rfl g_1 ?_
  refine jw_aload_n (pc' := 5) rfl rfl ?_
  refine jw_getI (pc' := 8) (F := 3) rfl rfl rfl rfl g_1 ?_
  refine jw_iload_n (pc' := 9) rfl rfl ?_
  refine jw_i2b (pc' := 10) rfl ?_
  obtain ⟨g_2, w⟩ := w
  obtain ⟨g_3, w⟩ := w
  refine jw_bast' (pc' := 11) rfl rfl rfl rfl rfl g_2 g_3 (fun h_4 e_5 => ?_)
  replace w := w h_4 e_5
  refine jw_aload_n (pc' := 12) rfl rfl ?_
  refine jw_dup (pc' := 13) rfl rfl ?_
  refine jw_getI (pc' := 16) (F := 3) rfl rfl rfl rfl g_1 ?_
  refine jw_iconst (pc' := 17) (x := (1 : Int32)) rfl rfl ?_
  refine jw_iadd (pc' := 18) rfl ?_
  refine jw_putI' (pc' := 21) (F := 3) rfl rfl rfl (Or.inr rfl) (Or.inl rfl) rfl (rfl) (rfl) rfl g_1 (fun h_6 e_7 => ?_)
  replace w := w h_6 e_7
  exact jw_return rfl rfl w
def T_X1_arrive (D : JD) (d : Nat) (Q : JO → JH → Prop) (r0 : Nat) (x1 : Int32) (h : JH) : Prop := W_X1_arrive_0 D d Q r0 x1 h
theorem t_X1_arrive {D : JD} {d : Nat} {Q : JO → JH → Prop} {r0 : Nat} {x1 : Int32} {h : JH} (w : T_X1_arrive D d Q r0 x1 h) : cX1_arrive D (d + 1) r0 x1 h Q := by
  unfold T_X1_arrive at w
  unfold cX1_arrive
  exact w_X1_arrive_0 w
def W_X1_ask_37 (D : JD) (d : Nat) (Q : JO → JH → Prop) (K37 : Nat → Int32 → Int32 → JH → Prop) (r0 : Nat) (x1 : Int32) (x2 : Int32) (h : JH) : Prop :=
  (x1 ≤ x2 → r0 ≠ 0 ∧ (cX1_arrive D d r0 (0 : Int32) h (pV D h (fun h_3 => Q (.inl (some (vI (jfi h_3 3 r0)))) h_3) (jth Q)))) ∧ (¬ x1 ≤ x2 → r0 ≠ 0 ∧ ((jfr h 0 r0) ≠ 0 ∧ jin x2 (jln h (jfr h 0 r0)) ∧ (cX1_arrive D d r0 (jai h (jfr h 0 r0) (ixn x2)) h (pV D h (fun h_9 => K37 r0 x1 (x2 + (1 : Int32)) h_9) (jth Q)))))
theorem w_X1_ask_37 {D : JD} {d : Nat} {Q : JO → JH → Prop} {K37 : Nat → Int32 → Int32 → JH → Prop} {r0 : Nat} {x1 : Int32} {x2 : Int32} {h : JH} (hK37 : ∀ (r0 : Nat) (x1 : Int32) (x2 : Int32) (h : JH), K37 r0 x1 x2 h → JW D (d + 1) mX1_ask 37 [some (vR 1 r0), some (vI x1), some (vI x2)] [] h Q) (w : W_X1_ask_37 D d Q K37 r0 x1 x2 h) : JW D (d + 1) mX1_ask 37 [some (vR 1 r0), some (vI x1), some (vI x2)] [] h Q := by
  unfold W_X1_ask_37 at w
  refine jw_iload_n (pc' := 38) rfl rfl ?_
  refine jw_iload_n (pc' := 39) rfl rfl ?_
  refine jw_icmp_ge (tgt := 58) (pc' := 42) rfl rfl (fun c_1 => ?_) (fun c_1 => ?_)
  · replace w := w.1 c_1
    refine jw_aload_n (pc' := 59) rfl rfl ?_
    refine jw_iconst (pc' := 60) (x := (0 : Int32)) rfl rfl ?_
    obtain ⟨g_2, w⟩ := w
    refine jw_cV (st := []) (sa := [vR 1 r0, vI (0 : Int32)]) okX1_arrive rfl rfl rfl rfl rfl rfl (jstp_virtual (sa := [vI (0 : Int32)]) (st := []) (k := 0) rfl rfl sX1_arrive okX1_arrive g_2 (one1.k g_2) rfl rfl) w (fun h_3 _ _ w => ?_)
    refine jw_aload_n (pc' := 64) rfl rfl ?_
    refine jw_getI (pc' := 67) (F := 3) rfl rfl rfl rfl g_2 ?_
    exact jw_ireturn rfl rfl (rfl) w
  · replace w := w.2 c_1
    refine jw_aload_n (pc' := 43) rfl rfl ?_
    refine jw_aload_n (pc' := 44) rfl rfl ?_
    obtain ⟨g_6, w⟩ := w
    refine jw_getR (pc' := 47) (F := 0) (t' := 122) rfl rfl rfl rfl rfl g_6 ?_
    refine jw_iload_n (pc' := 48) rfl rfl ?_
    obtain ⟨g_7, w⟩ := w
    obtain ⟨g_8, w⟩ := w
    refine jw_bald (pc' := 49) rfl rfl rfl rfl g_7 g_8.ix g_8.2 ?_
    refine jw_cV (st := []) (sa := [vR 1 r0, vI (jai h (jfr h 0 r0) (ixn x2))]) okX1_arrive rfl rfl rfl rfl rfl rfl (jstp_virtual (sa := [vI (jai h (jfr h 0 r0) (ixn x2))]) (st := []) (k := 0) rfl rfl sX1_arrive okX1_arrive g_6 (one1.k g_6) rfl rfl) w (fun h_9 _ _ w => ?_)
    refine jw_iinc (pc' := 55) (y := x2 + (1 : Int32)) (ls' := [some (vR 1 r0), some (vI x1), some (vI (x2 + (1 : Int32)))]) rfl (by decide) rfl rfl rfl ?_
    refine jw_goto (pc' := 37) rfl rfl ?_
    exact hK37 _ _ _ _ w
def L_X1_ask_37 (D : JD) (d : Nat) (Q : JO → JH → Prop) : Nat → Nat → Int32 → Int32 → JH → Prop
  | 0 => fun _ _ _ _ => False
  | n + 1 => fun r0 x1 x2 h => W_X1_ask_37 D d Q (L_X1_ask_37 D d Q n) r0 x1 x2 h
theorem l_X1_ask_37 {D : JD} {d : Nat} {Q : JO → JH → Prop} : ∀ (n : Nat) (r0 : Nat) (x1 : Int32) (x2 : Int32) (h : JH), L_X1_ask_37 D d Q n r0 x1 x2 h → JW D (d + 1) mX1_ask 37 [some (vR 1 r0), some (vI x1), some (vI x2)] [] h Q := by
  intro n
  induction n with
  | zero => intro _ _ _ _ w; exact w.elim
  | succ n ih => intro _ _ _ h w; exact w_X1_ask_37 ih w
def W_X1_ask_0 (D : JD) (d : Nat) (Q : JO → JH → Prop) (r0 : Nat) (h : JH) : Prop :=
  r0 ≠ 0 ∧ (∀ h_2 : JH, h_2 = wfi h 1 r0 (0 : Int32) → (cX1_room D d r0 ((jfi h 1 r0) + (6 : Int32)) h_2 (pV D h_2 (fun h_4 => cX1_arrive D d r0 (81 : Int32) h_4 (pV D h_4 (fun h_7 => cX1_arrive_2 D d r0 ((Int32.toInt64 (jfi h 1 r0)) + (5 : Int64)) (4 : Int32) h_7 (pV D h_7 (fun h_10 => ∃ n, L_X1_ask_37 D d Q n r0 (jfi h 1 r0) (0 : Int32) h_10) (jth Q))) (jth Q))) (jth Q))))
theorem w_X1_ask_0 {D : JD} {d : Nat} {Q : JO → JH → Prop} {r0 : Nat} {h : JH} (w : W_X1_ask_0 D d Q r0 h) : JW D (d + 1) mX1_ask 0 [some (vR 1 r0), none, none] [] h Q := by
  unfold W_X1_ask_0 at w
  refine jw_aload_n (pc' := 1) rfl rfl ?_
  obtain ⟨g_1, w⟩ := w
  refine jw_getI (pc' := 4) (F := 1) rfl rfl rfl rfl g_1 ?_
  refine jw_istore_n (pc' := 5) (ls' := [some (vR 1 r0), some (vI (jfi h 1 r0)), none]) rfl (by decide) rfl ?_
  refine jw_aload_n (pc' := 6) rfl rfl ?_
  refine jw_iconst (pc' := 7) (x := (0 : Int32)) rfl rfl ?_
  refine jw_putI' (pc' := 10) (F := 1) rfl rfl rfl (Or.inr rfl) (Or.inl rfl) rfl (rfl) (rfl) rfl g_1 (fun h_2 e_3 => ?_)
  replace w := w h_2 e_3
  refine jw_aload_n (pc' := 11) rfl rfl ?_
  refine jw_iload_n (pc' := 12) rfl rfl ?_
  refine jw_bipush (pc' := 14) (x := (6 : Int32)) rfl rfl ?_
  refine jw_iadd (pc' := 15) rfl ?_
  refine jw_cV (st := []) (sa := [vR 1 r0, vI ((jfi h 1 r0) + (6 : Int32))]) okX1_room rfl rfl rfl rfl rfl rfl (jstp_virtual (sa := [vI ((jfi h 1 r0) + (6 : Int32))]) (st := []) (k := 0) rfl rfl sX1_room okX1_room g_1 (one1.k g_1) rfl rfl) w (fun h_4 _ _ w => ?_)
  refine jw_aload_n (pc' := 19) rfl rfl ?_
  refine jw_bipush (pc' := 21) (x := (81 : Int32)) rfl rfl ?_
  refine jw_cV (st := []) (sa := [vR 1 r0, vI (81 : Int32)]) okX1_arrive rfl rfl rfl rfl rfl rfl (jstp_virtual (sa := [vI (81 : Int32)]) (st := []) (k := 0) rfl rfl sX1_arrive okX1_arrive g_1 (one1.k g_1) rfl rfl) w (fun h_7 _ _ w => ?_)
  refine jw_aload_n (pc' := 25) rfl rfl ?_
  refine jw_iload_n (pc' := 26) rfl rfl ?_
  refine jw_i2l (pc' := 27) rfl ?_
  refine jw_ldc2 (pc' := 30) (v := (5 : Int64)) rfl rfl ?_
  refine jw_ladd (pc' := 31) rfl ?_
  refine jw_iconst (pc' := 32) (x := (4 : Int32)) rfl rfl ?_
  refine jw_cV (st := []) (sa := [vR 1 r0, vL ((Int32.toInt64 (jfi h 1 r0)) + (5 : Int64)), vI (4 : Int32)]) okX1_arrive_2 rfl rfl rfl rfl rfl rfl (jstp_virtual (sa := [vL ((Int32.toInt64 (jfi h 1 r0)) + (5 : Int64)), vI (4 : Int32)]) (st := []) (k := 0) rfl rfl sX1_arrive_2 okX1_arrive_2 g_1 (one1.k g_1) rfl rfl) w (fun h_10 _ _ w => ?_)
  refine jw_iconst (pc' := 36) (x := (0 : Int32)) rfl rfl ?_
  refine jw_istore_n (pc' := 37) (ls' := [some (vR 1 r0), some (vI (jfi h 1 r0)), some (vI (0 : Int32))]) rfl (by decide) rfl ?_
  obtain ⟨n, w⟩ := w
  exact l_X1_ask_37 n _ _ _ _ w
def T_X1_ask (D : JD) (d : Nat) (Q : JO → JH → Prop) (r0 : Nat) (h : JH) : Prop := W_X1_ask_0 D d Q r0 h
theorem t_X1_ask {D : JD} {d : Nat} {Q : JO → JH → Prop} {r0 : Nat} {h : JH} (w : T_X1_ask D d Q r0 h) : cX1_ask D (d + 1) r0 h Q := by
  unfold T_X1_ask at w
  unfold cX1_ask
  exact w_X1_ask_0 w
def W_X1_arrive_2_5 (D : JD) (d : Nat) (Q : JO → JH → Prop) (K5 : Nat → Int64 → Int32 → JH → Prop) (r0 : Nat) (y1 : Int64) (x4 : Int32) (h : JH) : Prop :=
  (x4 < 0 → Q (.inl none) h) ∧ (¬ x4 < 0 → r0 ≠ 0 ∧ (cX1_arrive D d r0 (Int64.toInt32 (y1 >>> (Int32.toInt64 ((8 : Int32) * x4) &&& 63))) h (pV D h (fun h_3 => K5 r0 y1 (x4 + (-1 : Int32)) h_3) (jth Q))))
theorem w_X1_arrive_2_5 {D : JD} {d : Nat} {Q : JO → JH → Prop} {K5 : Nat → Int64 → Int32 → JH → Prop} {r0 : Nat} {y1 : Int64} {x4 : Int32} {h : JH} (hK5 : ∀ (r0 : Nat) (y1 : Int64) (x4 : Int32) (h : JH), K5 r0 y1 x4 h → JW D (d + 1) mX1_arrive_2 5 [some (vR 1 r0), some (vL y1), none, none, some (vI x4)] [] h Q) (w : W_X1_arrive_2_5 D d Q K5 r0 y1 x4 h) : JW D (d + 1) mX1_arrive_2 5 [some (vR 1 r0), some (vL y1), none, none, some (vI x4)] [] h Q := by
  unfold W_X1_arrive_2_5 at w
  refine jw_iload (pc' := 7) rfl rfl ?_
  refine jw_if_lt (tgt := 28) (pc' := 10) rfl rfl (fun c_1 => ?_) (fun c_1 => ?_)
  · replace w := w.1 c_1
    exact jw_return rfl rfl w
  · replace w := w.2 c_1
    refine jw_aload_n (pc' := 11) rfl rfl ?_
    refine jw_lload_n (pc' := 12) rfl rfl ?_
    refine jw_bipush (pc' := 14) (x := (8 : Int32)) rfl rfl ?_
    refine jw_iload (pc' := 16) rfl rfl ?_
    refine jw_imul (pc' := 17) rfl ?_
    refine jw_lshr (pc' := 18) rfl ?_
    refine jw_l2i (pc' := 19) rfl ?_
    obtain ⟨g_2, w⟩ := w
    refine jw_cV (st := []) (sa := [vR 1 r0, vI (Int64.toInt32 (y1 >>> (Int32.toInt64 ((8 : Int32) * x4) &&& 63)))]) okX1_arrive rfl rfl rfl rfl rfl rfl (jstp_virtual (sa := [vI (Int64.toInt32 (y1 >>> (Int32.toInt64 ((8 : Int32) * x4) &&& 63)))]) (st := []) (k := 0) rfl rfl sX1_arrive okX1_arrive g_2 (one1.k g_2) rfl rfl) w (fun h_3 _ _ w => ?_)
    refine jw_iinc (pc' := 25) (y := x4 + (-1 : Int32)) (ls' := [some (vR 1 r0), some (vL y1), none, none, some (vI (x4 + (-1 : Int32)))]) rfl (by decide) rfl rfl rfl ?_
    refine jw_goto (pc' := 5) rfl rfl ?_
    exact hK5 _ _ _ _ w
def L_X1_arrive_2_5 (D : JD) (d : Nat) (Q : JO → JH → Prop) : Nat → Nat → Int64 → Int32 → JH → Prop
  | 0 => fun _ _ _ _ => False
  | n + 1 => fun r0 y1 x4 h => W_X1_arrive_2_5 D d Q (L_X1_arrive_2_5 D d Q n) r0 y1 x4 h
theorem l_X1_arrive_2_5 {D : JD} {d : Nat} {Q : JO → JH → Prop} : ∀ (n : Nat) (r0 : Nat) (y1 : Int64) (x4 : Int32) (h : JH), L_X1_arrive_2_5 D d Q n r0 y1 x4 h → JW D (d + 1) mX1_arrive_2 5 [some (vR 1 r0), some (vL y1), none, none, some (vI x4)] [] h Q := by
  intro n
  induction n with
  | zero => intro _ _ _ _ w; exact w.elim
  | succ n ih => intro _ _ _ h w; exact w_X1_arrive_2_5 ih w
def W_X1_arrive_2_0 (D : JD) (d : Nat) (Q : JO → JH → Prop) (r0 : Nat) (y1 : Int64) (x3 : Int32) (h : JH) : Prop :=
  ∃ n, L_X1_arrive_2_5 D d Q n r0 y1 (x3 - (1 : Int32)) h
theorem w_X1_arrive_2_0 {D : JD} {d : Nat} {Q : JO → JH → Prop} {r0 : Nat} {y1 : Int64} {x3 : Int32} {h : JH} (w : W_X1_arrive_2_0 D d Q r0 y1 x3 h) : JW D (d + 1) mX1_arrive_2 0 [some (vR 1 r0), some (vL y1), none, some (vI x3), none] [] h Q := by
  unfold W_X1_arrive_2_0 at w
  refine jw_iload_n (pc' := 1) rfl rfl ?_
  refine jw_iconst (pc' := 2) (x := (1 : Int32)) rfl rfl ?_
  refine jw_isub (pc' := 3) rfl ?_
  refine jw_istore (pc' := 5) (ls' := [some (vR 1 r0), some (vL y1), none, some (vI x3), some (vI (x3 - (1 : Int32)))]) rfl (by decide) rfl ?_
  refine jw_gen (ls' := [some (vR 1 r0), some (vL y1), none, none, some (vI (x3 - (1 : Int32)))]) (st' := []) (And.intro (Or.inl rfl) (And.intro (Or.inl rfl) (And.intro (Or.inl rfl) (trivial)))) (trivial) ?_
  obtain ⟨n, w⟩ := w
  exact l_X1_arrive_2_5 n _ _ _ _ w
def T_X1_arrive_2 (D : JD) (d : Nat) (Q : JO → JH → Prop) (r0 : Nat) (y1 : Int64) (x3 : Int32) (h : JH) : Prop := W_X1_arrive_2_0 D d Q r0 y1 x3 h
theorem t_X1_arrive_2 {D : JD} {d : Nat} {Q : JO → JH → Prop} {r0 : Nat} {y1 : Int64} {x3 : Int32} {h : JH} (w : T_X1_arrive_2 D d Q r0 y1 x3 h) : cX1_arrive_2 D (d + 1) r0 y1 x3 h Q := by
  unfold T_X1_arrive_2 at w
  unfold cX1_arrive_2
  exact w_X1_arrive_2_0 w
def W_X1_greet_0 (D : JD) (d : Nat) (Q : JO → JH → Prop) (r0 : Nat) (h : JH) : Prop :=
  r0 ≠ 0 ∧ (cX1_room D d r0 (23 : Int32) h (pV D h (fun h_2 => cX1_arrive_2 D d r0 (16 : Int64) (4 : Int32) h_2 (pV D h_2 (fun h_5 => cX1_arrive_2 D d r0 (196608 : Int64) (4 : Int32) h_5 (pV D h_5 (fun h_8 => cX1_arrive_3 D d r0 (jcs D 4) h_8 (pV D h_8 (fun h_11 => cX1_arrive_3 D d r0 (jcs D 218) h_11 (pV D h_11 (fun h_14 => cX1_arrive D d r0 (0 : Int32) h_14 (pV D h_14 (fun h_17 => cX1_arrive D d r0 (112 : Int32) h_17 (pV D h_17 (fun h_20 => cX1_arrive_2 D d r0 (6 : Int64) (4 : Int32) h_20 (pV D h_20 (fun h_23 => cX1_arrive_3 D d r0 (jcs D 218) h_23 (pV D h_23 (fun h_26 => Q (.inl (some (vI (jfi h_26 3 r0)))) h_26) (jth Q))) (jth Q))) (jth Q))) (jth Q))) (jth Q))) (jth Q))) (jth Q))) (jth Q))) (jth Q)))
theorem w_X1_greet_0 {D : JD} {d : Nat} {Q : JO → JH → Prop} {r0 : Nat} {h : JH} (w : W_X1_greet_0 D d Q r0 h) : JW D (d + 1) mX1_greet 0 [some (vR 1 r0)] [] h Q := by
  unfold W_X1_greet_0 at w
  refine jw_aload_n (pc' := 1) rfl rfl ?_
  refine jw_bipush (pc' := 3) (x := (23 : Int32)) rfl rfl ?_
  obtain ⟨g_1, w⟩ := w
  refine jw_cV (st := []) (sa := [vR 1 r0, vI (23 : Int32)]) okX1_room rfl rfl rfl rfl rfl rfl (jstp_virtual (sa := [vI (23 : Int32)]) (st := []) (k := 0) rfl rfl sX1_room okX1_room g_1 (one1.k g_1) rfl rfl) w (fun h_2 _ _ w => ?_)
  refine jw_aload_n (pc' := 7) rfl rfl ?_
  refine jw_ldc2 (pc' := 10) (v := (16 : Int64)) rfl rfl ?_
  refine jw_iconst (pc' := 11) (x := (4 : Int32)) rfl rfl ?_
  refine jw_cV (st := []) (sa := [vR 1 r0, vL (16 : Int64), vI (4 : Int32)]) okX1_arrive_2 rfl rfl rfl rfl rfl rfl (jstp_virtual (sa := [vL (16 : Int64), vI (4 : Int32)]) (st := []) (k := 0) rfl rfl sX1_arrive_2 okX1_arrive_2 g_1 (one1.k g_1) rfl rfl) w (fun h_5 _ _ w => ?_)
  refine jw_aload_n (pc' := 15) rfl rfl ?_
  refine jw_ldc2 (pc' := 18) (v := (196608 : Int64)) rfl rfl ?_
  refine jw_iconst (pc' := 19) (x := (4 : Int32)) rfl rfl ?_
  refine jw_cV (st := []) (sa := [vR 1 r0, vL (196608 : Int64), vI (4 : Int32)]) okX1_arrive_2 rfl rfl rfl rfl rfl rfl (jstp_virtual (sa := [vL (196608 : Int64), vI (4 : Int32)]) (st := []) (k := 0) rfl rfl sX1_arrive_2 okX1_arrive_2 g_1 (one1.k g_1) rfl rfl) w (fun h_8 _ _ w => ?_)
  refine jw_aload_n (pc' := 23) rfl rfl ?_
  refine jw_ldcS (pc' := 25) rfl rfl rfl rfl ?_
  refine jw_cV (st := []) (sa := [vR 1 r0, vR 51 (jcs D 4)]) okX1_arrive_3 rfl rfl rfl rfl rfl rfl (jstp_virtual (sa := [vR 51 (jcs D 4)]) (st := []) (k := 0) rfl rfl sX1_arrive_3 okX1_arrive_3 g_1 (one1.k g_1) rfl rfl) w (fun h_11 _ _ w => ?_)
  refine jw_aload_n (pc' := 29) rfl rfl ?_
  refine jw_ldcS (pc' := 31) rfl rfl rfl rfl ?_
  refine jw_cV (st := []) (sa := [vR 1 r0, vR 51 (jcs D 218)]) okX1_arrive_3 rfl rfl rfl rfl rfl rfl (jstp_virtual (sa := [vR 51 (jcs D 218)]) (st := []) (k := 0) rfl rfl sX1_arrive_3 okX1_arrive_3 g_1 (one1.k g_1) rfl rfl) w (fun h_14 _ _ w => ?_)
  refine jw_aload_n (pc' := 35) rfl rfl ?_
  refine jw_iconst (pc' := 36) (x := (0 : Int32)) rfl rfl ?_
  refine jw_cV (st := []) (sa := [vR 1 r0, vI (0 : Int32)]) okX1_arrive rfl rfl rfl rfl rfl rfl (jstp_virtual (sa := [vI (0 : Int32)]) (st := []) (k := 0) rfl rfl sX1_arrive okX1_arrive g_1 (one1.k g_1) rfl rfl) w (fun h_17 _ _ w => ?_)
  refine jw_aload_n (pc' := 40) rfl rfl ?_
  refine jw_bipush (pc' := 42) (x := (112 : Int32)) rfl rfl ?_
  refine jw_cV (st := []) (sa := [vR 1 r0, vI (112 : Int32)]) okX1_arrive rfl rfl rfl rfl rfl rfl (jstp_virtual (sa := [vI (112 : Int32)]) (st := []) (k := 0) rfl rfl sX1_arrive okX1_arrive g_1 (one1.k g_1) rfl rfl) w (fun h_20 _ _ w => ?_)
  refine jw_aload_n (pc' := 46) rfl rfl ?_
  refine jw_ldc2 (pc' := 49) (v := (6 : Int64)) rfl rfl ?_
  refine jw_iconst (pc' := 50) (x := (4 : Int32)) rfl rfl ?_
  refine jw_cV (st := []) (sa := [vR 1 r0, vL (6 : Int64), vI (4 : Int32)]) okX1_arrive_2 rfl rfl rfl rfl rfl rfl (jstp_virtual (sa := [vL (6 : Int64), vI (4 : Int32)]) (st := []) (k := 0) rfl rfl sX1_arrive_2 okX1_arrive_2 g_1 (one1.k g_1) rfl rfl) w (fun h_23 _ _ w => ?_)
  refine jw_aload_n (pc' := 54) rfl rfl ?_
  refine jw_ldcS (pc' := 56) rfl rfl rfl rfl ?_
  refine jw_cV (st := []) (sa := [vR 1 r0, vR 51 (jcs D 218)]) okX1_arrive_3 rfl rfl rfl rfl rfl rfl (jstp_virtual (sa := [vR 51 (jcs D 218)]) (st := []) (k := 0) rfl rfl sX1_arrive_3 okX1_arrive_3 g_1 (one1.k g_1) rfl rfl) w (fun h_26 _ _ w => ?_)
  refine jw_aload_n (pc' := 60) rfl rfl ?_
  refine jw_getI (pc' := 63) (F := 3) rfl rfl rfl rfl g_1 ?_
  exact jw_ireturn rfl rfl (rfl) w
def T_X1_greet (D : JD) (d : Nat) (Q : JO → JH → Prop) (r0 : Nat) (h : JH) : Prop := W_X1_greet_0 D d Q r0 h
theorem t_X1_greet {D : JD} {d : Nat} {Q : JO → JH → Prop} {r0 : Nat} {h : JH} (w : T_X1_greet D d Q r0 h) : cX1_greet D (d + 1) r0 h Q := by
  unfold T_X1_greet at w
  unfold cX1_greet
  exact w_X1_greet_0 w
def W_X1_arrive_3_2 (D : JD) (d : Nat) (Q : JO → JH → Prop) (K2 : Nat → Nat → Int32 → JH → Prop) (r0 : Nat) (r1 : Nat) (x2 : Int32) (h : JH) : Prop :=
  r1 ≠ 0 ∧ (cJ5_length D d r1 h (pI D h (fun v_4 h_2 => (v_4 ≤ x2 → r0 ≠ 0 ∧ (cX1_arrive D d r0 (0 : Int32) h_2 (pV D h_2 (fun h_7 => Q (.inl none) h_7) (jth Q)))) ∧ (¬ v_4 ≤ x2 → cJ5_charAt D d r1 x2 h_2 (pI D h_2 (fun v_12 h_10 => r0 ≠ 0 ∧ (cX1_arrive D d r0 v_12 h_10 (pV D h_10 (fun h_14 => K2 r0 r1 (x2 + (1 : Int32)) h_14) (jth Q)))) (jth Q)))) (jth Q)))
theorem w_X1_arrive_3_2 {D : JD} {d : Nat} {Q : JO → JH → Prop} {K2 : Nat → Nat → Int32 → JH → Prop} {r0 : Nat} {r1 : Nat} {x2 : Int32} {h : JH} (hK2 : ∀ (r0 : Nat) (r1 : Nat) (x2 : Int32) (h : JH), K2 r0 r1 x2 h → JW D (d + 1) mX1_arrive_3 2 [some (vR 1 r0), some (vR 64 r1), some (vI x2)] [] h Q) (w : W_X1_arrive_3_2 D d Q K2 r0 r1 x2 h) : JW D (d + 1) mX1_arrive_3 2 [some (vR 1 r0), some (vR 64 r1), some (vI x2)] [] h Q := by
  unfold W_X1_arrive_3_2 at w
  refine jw_iload_n (pc' := 3) rfl rfl ?_
  refine jw_aload_n (pc' := 4) rfl rfl ?_
  obtain ⟨g_1, w⟩ := w
  refine jw_cI (st := [vI x2]) (sa := [vR 64 r1]) okJ5_length rfl rfl rfl rfl rfl rfl (jstp_virtual (sa := []) (st := [vI x2]) (k := 0) rfl rfl sJ5_length okJ5_length g_1 (one64.k g_1) rfl rfl) w (fun v_4 h_2 _ _ w => ?_)
  refine jw_icmp_ge (tgt := 25) (pc' := 10) rfl rfl (fun c_5 => ?_) (fun c_5 => ?_)
  · replace w := w.1 c_5
    refine jw_aload_n (pc' := 26) rfl rfl ?_
    refine jw_iconst (pc' := 27) (x := (0 : Int32)) rfl rfl ?_
    obtain ⟨g_6, w⟩ := w
    refine jw_cV (st := []) (sa := [vR 1 r0, vI (0 : Int32)]) okX1_arrive rfl rfl rfl rfl rfl rfl (jstp_virtual (sa := [vI (0 : Int32)]) (st := []) (k := 0) rfl rfl sX1_arrive okX1_arrive g_6 (one1.k g_6) rfl rfl) w (fun h_7 _ _ w => ?_)
    exact jw_return rfl rfl w
  · replace w := w.2 c_5
    refine jw_aload_n (pc' := 11) rfl rfl ?_
    refine jw_aload_n (pc' := 12) rfl rfl ?_
    refine jw_iload_n (pc' := 13) rfl rfl ?_
    refine jw_cI (st := [vR 1 r0]) (sa := [vR 64 r1, vI x2]) okJ5_charAt rfl rfl rfl rfl rfl rfl (jstp_virtual (sa := [vI x2]) (st := [vR 1 r0]) (k := 0) rfl rfl sJ5_charAt okJ5_charAt g_1 (one64.k g_1) rfl rfl) w (fun v_12 h_10 _ _ w => ?_)
    obtain ⟨g_13, w⟩ := w
    refine jw_cV (st := []) (sa := [vR 1 r0, vI v_12]) okX1_arrive rfl rfl rfl rfl rfl rfl (jstp_virtual (sa := [vI v_12]) (st := []) (k := 0) rfl rfl sX1_arrive okX1_arrive g_13 (one1.k g_13) rfl rfl) w (fun h_14 _ _ w => ?_)
    refine jw_iinc (pc' := 22) (y := x2 + (1 : Int32)) (ls' := [some (vR 1 r0), some (vR 64 r1), some (vI (x2 + (1 : Int32)))]) rfl (by decide) rfl rfl rfl ?_
    refine jw_goto (pc' := 2) rfl rfl ?_
    exact hK2 _ _ _ _ w
def L_X1_arrive_3_2 (D : JD) (d : Nat) (Q : JO → JH → Prop) : Nat → Nat → Nat → Int32 → JH → Prop
  | 0 => fun _ _ _ _ => False
  | n + 1 => fun r0 r1 x2 h => W_X1_arrive_3_2 D d Q (L_X1_arrive_3_2 D d Q n) r0 r1 x2 h
theorem l_X1_arrive_3_2 {D : JD} {d : Nat} {Q : JO → JH → Prop} : ∀ (n : Nat) (r0 : Nat) (r1 : Nat) (x2 : Int32) (h : JH), L_X1_arrive_3_2 D d Q n r0 r1 x2 h → JW D (d + 1) mX1_arrive_3 2 [some (vR 1 r0), some (vR 64 r1), some (vI x2)] [] h Q := by
  intro n
  induction n with
  | zero => intro _ _ _ _ w; exact w.elim
  | succ n ih => intro _ _ _ h w; exact w_X1_arrive_3_2 ih w
def W_X1_arrive_3_0 (D : JD) (d : Nat) (Q : JO → JH → Prop) (r0 : Nat) (r1 : Nat) (h : JH) : Prop :=
  ∃ n, L_X1_arrive_3_2 D d Q n r0 r1 (0 : Int32) h
theorem w_X1_arrive_3_0 {D : JD} {d : Nat} {Q : JO → JH → Prop} {r0 : Nat} {r1 : Nat} {h : JH} (w : W_X1_arrive_3_0 D d Q r0 r1 h) : JW D (d + 1) mX1_arrive_3 0 [some (vR 1 r0), some (vR 64 r1), none] [] h Q := by
  unfold W_X1_arrive_3_0 at w
  refine jw_iconst (pc' := 1) (x := (0 : Int32)) rfl rfl ?_
  refine jw_istore_n (pc' := 2) (ls' := [some (vR 1 r0), some (vR 64 r1), some (vI (0 : Int32))]) rfl (by decide) rfl ?_
  obtain ⟨n, w⟩ := w
  exact l_X1_arrive_3_2 n _ _ _ _ w
def T_X1_arrive_3 (D : JD) (d : Nat) (Q : JO → JH → Prop) (r0 : Nat) (r1 : Nat) (h : JH) : Prop := W_X1_arrive_3_0 D d Q r0 r1 h
theorem t_X1_arrive_3 {D : JD} {d : Nat} {Q : JO → JH → Prop} {r0 : Nat} {r1 : Nat} {h : JH} (w : T_X1_arrive_3 D d Q r0 r1 h) : cX1_arrive_3 D (d + 1) r0 r1 h Q := by
  unfold T_X1_arrive_3 at w
  unfold cX1_arrive_3
  exact w_X1_arrive_3_0 w
def W_X1_word_15 (D : JD) (d : Nat) (Q : JO → JH → Prop) (h : JH) : Prop :=
  ∀ (r_1 : Nat) (h_2 : JH), r_1 = jsz h + 1 → h_2 = nwo h 39 6 → (jkd h_2 r_1 = 39 ∧ jfi h_2 330 r_1 = 0 ∧ 6 ≤ d + 1 ∧ ∀ h_8 : JH, h_8 = wfi h_2 330 r_1 1 → (Q (.inr r_1) h_8))
theorem w_X1_word_15 {D : JD} {d : Nat} {Q : JO → JH → Prop} {h : JH} (w : W_X1_word_15 D d Q h) : JW D (d + 1) mX1_word 15 [none, none, none, none, none] [] h Q := by
  unfold W_X1_word_15 at w
  refine jw_new' (pc' := 18) (k := 39) (n := 6) rfl rfl rfl rfl rfl rfl rfl (fun r_1 h_2 e_3 e_4 => ?_)
  replace w := w r_1 h_2 e_3 e_4
  refine jw_dup (pc' := 19) rfl rfl ?_
  obtain ⟨g_5, w⟩ := w
  obtain ⟨g_6, w⟩ := w
  obtain ⟨g_7, w⟩ := w
  refine jw_exc39' (pc' := 22) rfl g_5 g_6 g_7 rfl (jnz e_3) (lw_g (jtb_mem (c := 14) (i := 207) rfl) rfl) (fun h_8 e_9 => ?_)
  replace w := w h_8 e_9
  exact jw_athrow rfl rfl (jnz e_3) w
def W_X1_word_71 (D : JD) (d : Nat) (Q : JO → JH → Prop) (K28 : Nat → Int32 → Int64 → Int32 → JH → Prop) (r0 : Nat) (x1 : Int32) (x4 : Int32) (t0 : Int64) (s1 : Int32) (h : JH) : Prop :=
  K28 r0 x1 (t0 ||| (Int32.toInt64 s1)) (x4 + (1 : Int32)) h
theorem w_X1_word_71 {D : JD} {d : Nat} {Q : JO → JH → Prop} {K28 : Nat → Int32 → Int64 → Int32 → JH → Prop} {r0 : Nat} {x1 : Int32} {x4 : Int32} {t0 : Int64} {s1 : Int32} {h : JH} (hK28 : ∀ (r0 : Nat) (x1 : Int32) (y2 : Int64) (x4 : Int32) (h : JH), K28 r0 x1 y2 x4 h → JW D (d + 1) mX1_word 28 [some (vR 1 r0), some (vI x1), some (vL y2), none, some (vI x4)] [] h Q) (w : W_X1_word_71 D d Q K28 r0 x1 x4 t0 s1 h) : JW D (d + 1) mX1_word 71 [some (vR 1 r0), some (vI x1), none, none, some (vI x4)] [vI s1, vL t0] h Q := by
  unfold W_X1_word_71 at w
  refine jw_i2l (pc' := 72) rfl ?_
  refine jw_lor (pc' := 73) rfl ?_
  refine jw_lstore_n (pc' := 74) (ls' := [some (vR 1 r0), some (vI x1), some (vL (t0 ||| (Int32.toInt64 s1))), none, some (vI x4)]) rfl (by decide) rfl ?_
  refine jw_iinc (pc' := 77) (y := x4 + (1 : Int32)) (ls' := [some (vR 1 r0), some (vI x1), some (vL (t0 ||| (Int32.toInt64 s1))), none, some (vI (x4 + (1 : Int32)))]) rfl (by decide) rfl rfl rfl ?_
  refine jw_goto (pc' := 28) rfl rfl ?_
  exact hK28 _ _ _ _ _ w
def W_X1_word_28 (D : JD) (d : Nat) (Q : JO → JH → Prop) (K28 : Nat → Int32 → Int64 → Int32 → JH → Prop) (r0 : Nat) (x1 : Int32) (y2 : Int64) (x4 : Int32) (h : JH) : Prop :=
  ((x1 + (8 : Int32)) ≤ x4 → Q (.inl (some (vL y2))) h) ∧ (¬ (x1 + (8 : Int32)) ≤ x4 → r0 ≠ 0 ∧ ((jfr h 4 r0) ≠ 0 ∧ (((jfi h 18 (jfr h 4 r0)) ≤ x4 → W_X1_word_71 D d Q K28 r0 x1 x4 (y2 <<< (Int32.toInt64 (8 : Int32) &&& 63)) (0 : Int32) h) ∧ (¬ (jfi h 18 (jfr h 4 r0)) ≤ x4 → (jfr h 17 (jfr h 4 r0)) ≠ 0 ∧ jin x4 (jln h (jfr h 17 (jfr h 4 r0))) ∧ (W_X1_word_71 D d Q K28 r0 x1 x4 (y2 <<< (Int32.toInt64 (8 : Int32) &&& 63)) ((jai h (jfr h 17 (jfr h 4 r0)) (ixn x4)) &&& (255 : Int32)) h)))))
theorem w_X1_word_28 {D : JD} {d : Nat} {Q : JO → JH → Prop} {K28 : Nat → Int32 → Int64 → Int32 → JH → Prop} {r0 : Nat} {x1 : Int32} {y2 : Int64} {x4 : Int32} {h : JH} (hK28 : ∀ (r0 : Nat) (x1 : Int32) (y2 : Int64) (x4 : Int32) (h : JH), K28 r0 x1 y2 x4 h → JW D (d + 1) mX1_word 28 [some (vR 1 r0), some (vI x1), some (vL y2), none, some (vI x4)] [] h Q) (w : W_X1_word_28 D d Q K28 r0 x1 y2 x4 h) : JW D (d + 1) mX1_word 28 [some (vR 1 r0), some (vI x1), some (vL y2), none, some (vI x4)] [] h Q := by
  unfold W_X1_word_28 at w
  refine jw_iload (pc' := 30) rfl rfl ?_
  refine jw_iload_n (pc' := 31) rfl rfl ?_
  refine jw_bipush (pc' := 33) (x := (8 : Int32)) rfl rfl ?_
  refine jw_iadd (pc' := 34) rfl ?_
  refine jw_icmp_ge (tgt := 80) (pc' := 37) rfl rfl (fun c_1 => ?_) (fun c_1 => ?_)
  · replace w := w.1 c_1
    refine jw_lload_n (pc' := 81) rfl rfl ?_
    exact jw_lreturn rfl rfl w
  · replace w := w.2 c_1
    refine jw_lload_n (pc' := 38) rfl rfl ?_
    refine jw_bipush (pc' := 40) (x := (8 : Int32)) rfl rfl ?_
    refine jw_lshl (pc' := 41) rfl ?_
    refine jw_iload (pc' := 43) rfl rfl ?_
    refine jw_aload_n (pc' := 44) rfl rfl ?_
    obtain ⟨g_2, w⟩ := w
    refine jw_getR (pc' := 47) (F := 4) (t' := 112) rfl rfl rfl rfl rfl g_2 ?_
    obtain ⟨g_3, w⟩ := w
    refine jw_getI (pc' := 50) (F := 18) rfl rfl rfl rfl g_3 ?_
    refine jw_icmp_ge (tgt := 70) (pc' := 53) rfl rfl (fun c_4 => ?_) (fun c_4 => ?_)
    · replace w := w.1 c_4
      refine jw_iconst (pc' := 71) (x := (0 : Int32)) rfl rfl ?_
      refine jw_gen (ls' := [some (vR 1 r0), some (vI x1), none, none, some (vI x4)]) (st' := [vI (0 : Int32), vL (y2 <<< (Int32.toInt64 (8 : Int32) &&& 63))]) (And.intro (Or.inl rfl) (And.intro (Or.inl rfl) (And.intro (Or.inl rfl) (trivial)))) (And.intro (Or.inl rfl) (And.intro (Or.inl rfl) (trivial))) ?_
      exact w_X1_word_71 hK28 w
    · replace w := w.2 c_4
      refine jw_aload_n (pc' := 54) rfl rfl ?_
      refine jw_getR (pc' := 57) (F := 4) (t' := 112) rfl rfl rfl rfl rfl g_2 ?_
      refine jw_getR (pc' := 60) (F := 17) (t' := 127) rfl rfl rfl rfl rfl g_3 ?_
      refine jw_iload (pc' := 62) rfl rfl ?_
      obtain ⟨g_5, w⟩ := w
      obtain ⟨g_6, w⟩ := w
      refine jw_bald (pc' := 63) rfl rfl rfl rfl g_5 g_6.ix g_6.2 ?_
      refine jw_sipush (pc' := 66) (x := (255 : Int32)) rfl rfl ?_
      refine jw_iand (pc' := 67) rfl ?_
      refine jw_goto (pc' := 71) rfl rfl ?_
      refine jw_gen (ls' := [some (vR 1 r0), some (vI x1), none, none, some (vI x4)]) (st' := [vI ((jai h (jfr h 17 (jfr h 4 r0)) (ixn x4)) &&& (255 : Int32)), vL (y2 <<< (Int32.toInt64 (8 : Int32) &&& 63))]) (And.intro (Or.inl rfl) (And.intro (Or.inl rfl) (And.intro (Or.inl rfl) (trivial)))) (And.intro (Or.inl rfl) (And.intro (Or.inl rfl) (trivial))) ?_
      exact w_X1_word_71 hK28 w
def L_X1_word_28 (D : JD) (d : Nat) (Q : JO → JH → Prop) : Nat → Nat → Int32 → Int64 → Int32 → JH → Prop
  | 0 => fun _ _ _ _ _ => False
  | n + 1 => fun r0 x1 y2 x4 h => W_X1_word_28 D d Q (L_X1_word_28 D d Q n) r0 x1 y2 x4 h
theorem l_X1_word_28 {D : JD} {d : Nat} {Q : JO → JH → Prop} : ∀ (n : Nat) (r0 : Nat) (x1 : Int32) (y2 : Int64) (x4 : Int32) (h : JH), L_X1_word_28 D d Q n r0 x1 y2 x4 h → JW D (d + 1) mX1_word 28 [some (vR 1 r0), some (vI x1), some (vL y2), none, some (vI x4)] [] h Q := by
  intro n
  induction n with
  | zero => intro _ _ _ _ _ w; exact w.elim
  | succ n ih => intro _ _ _ _ h w; exact w_X1_word_28 ih w
def W_X1_word_0 (D : JD) (d : Nat) (Q : JO → JH → Prop) (r0 : Nat) (x1 : Int32) (h : JH) : Prop :=
  (x1 < 0 → W_X1_word_15 D d Q h) ∧ (¬ x1 < 0 → r0 ≠ 0 ∧ ((jfr h 4 r0) ≠ 0 ∧ ((x1 < (jfi h 18 (jfr h 4 r0)) → ∃ n, L_X1_word_28 D d Q n r0 x1 (0 : Int64) x1 h) ∧ (¬ x1 < (jfi h 18 (jfr h 4 r0)) → W_X1_word_15 D d Q h))))
theorem w_X1_word_0 {D : JD} {d : Nat} {Q : JO → JH → Prop} {r0 : Nat} {x1 : Int32} {h : JH} (w : W_X1_word_0 D d Q r0 x1 h) : JW D (d + 1) mX1_word 0 [some (vR 1 r0), some (vI x1), none, none, none] [] h Q := by
  unfold W_X1_word_0 at w
  refine jw_iload_n (pc' := 1) rfl rfl ?_
  refine jw_if_lt (tgt := 15) (pc' := 4) rfl rfl (fun c_1 => ?_) (fun c_1 => ?_)
  · replace w := w.1 c_1
    refine jw_gen (ls' := [none, none, none, none, none]) (st' := []) (trivial) (trivial) ?_
    exact w_X1_word_15 w
  · replace w := w.2 c_1
    refine jw_iload_n (pc' := 5) rfl rfl ?_
    refine jw_aload_n (pc' := 6) rfl rfl ?_
    obtain ⟨g_2, w⟩ := w
    refine jw_getR (pc' := 9) (F := 4) (t' := 112) rfl rfl rfl rfl rfl g_2 ?_
    obtain ⟨g_3, w⟩ := w
    refine jw_getI (pc' := 12) (F := 18) rfl rfl rfl rfl g_3 ?_
    refine jw_icmp_lt (tgt := 23) (pc' := 15) rfl rfl (fun c_4 => ?_) (fun c_4 => ?_)
    · replace w := w.1 c_4
      refine jw_lconst (pc' := 24) (x := (0 : Int64)) rfl rfl ?_
      refine jw_lstore_n (pc' := 25) (ls' := [some (vR 1 r0), some (vI x1), some (vL (0 : Int64)), none, none]) rfl (by decide) rfl ?_
      refine jw_iload_n (pc' := 26) rfl rfl ?_
      refine jw_istore (pc' := 28) (ls' := [some (vR 1 r0), some (vI x1), some (vL (0 : Int64)), none, some (vI x1)]) rfl (by decide) rfl ?_
      obtain ⟨n, w⟩ := w
      exact l_X1_word_28 n _ _ _ _ _ w
    · replace w := w.2 c_4
      refine jw_gen (ls' := [none, none, none, none, none]) (st' := []) (trivial) (trivial) ?_
      exact w_X1_word_15 w
def T_X1_word (D : JD) (d : Nat) (Q : JO → JH → Prop) (r0 : Nat) (x1 : Int32) (h : JH) : Prop := W_X1_word_0 D d Q r0 x1 h
theorem t_X1_word {D : JD} {d : Nat} {Q : JO → JH → Prop} {r0 : Nat} {x1 : Int32} {h : JH} (w : T_X1_word D d Q r0 x1 h) : cX1_word D (d + 1) r0 x1 h Q := by
  unfold T_X1_word at w
  unfold cX1_word
  exact w_X1_word_0 w
def W_X1_count_109 (D : JD) (d : Nat) (Q : JO → JH → Prop) (s0 : Int32) (h : JH) : Prop :=
  Q (.inl (some (vI s0))) h
theorem w_X1_count_109 {D : JD} {d : Nat} {Q : JO → JH → Prop} {s0 : Int32} {h : JH} (w : W_X1_count_109 D d Q s0 h) : JW D (d + 1) mX1_count 109 [none, none] [vI s0] h Q := by
  unfold W_X1_count_109 at w
  exact jw_ireturn rfl rfl (rfl) w
def W_X1_count_154 (D : JD) (d : Nat) (Q : JO → JH → Prop) (s0 : Int32) (h : JH) : Prop :=
  Q (.inl (some (vI s0))) h
theorem w_X1_count_154 {D : JD} {d : Nat} {Q : JO → JH → Prop} {s0 : Int32} {h : JH} (w : W_X1_count_154 D d Q s0 h) : JW D (d + 1) mX1_count 154 [none, none] [vI s0] h Q := by
  unfold W_X1_count_154 at w
  exact jw_ireturn rfl rfl (rfl) w
def W_X1_count_0 (D : JD) (d : Nat) (Q : JO → JH → Prop) (r0 : Nat) (x1 : Int32) (h : JH) : Prop :=
  (x1 = (0 : Int32) → r0 ≠ 0 ∧ (Q (.inl (some (vI (jfi h 3 r0)))) h)) ∧ (x1 = (1 : Int32) → r0 ≠ 0 ∧ ((jfr h 4 r0) ≠ 0 ∧ (Q (.inl (some (vI (jfi h 18 (jfr h 4 r0))))) h))) ∧ (x1 = (2 : Int32) → r0 ≠ 0 ∧ (((jfi h 5 r0) = (2 : Int32) → (jfr h 7 r0) ≠ 0 ∧ ((¬ (jfi h 36 (jfr h 7 r0)) = 0 → ((jfi h 37 (jfr h 7 r0)) = 0 → W_X1_count_109 D d Q (3 : Int32) h) ∧ (¬ (jfi h 37 (jfr h 7 r0)) = 0 → W_X1_count_109 D d Q (4 : Int32) h)) ∧ ((jfi h 36 (jfr h 7 r0)) = 0 → W_X1_count_109 D d Q (2 : Int32) h))) ∧ (¬ (jfi h 5 r0) = (2 : Int32) → W_X1_count_109 D d Q (jfi h 5 r0) h))) ∧ (x1 = (3 : Int32) → r0 ≠ 0 ∧ ((jfr h 7 r0) ≠ 0 ∧ ((jfr h 20 (jfr h 7 r0)) ≠ 0 ∧ (Q (.inl (some (vI (jfi h 41 (jfr h 20 (jfr h 7 r0)))))) h)))) ∧ (x1 = (4 : Int32) → r0 ≠ 0 ∧ ((jfr h 7 r0) ≠ 0 ∧ ((jfr h 20 (jfr h 7 r0)) ≠ 0 ∧ (cX4_rows D d (jfr h 20 (jfr h 7 r0)) h (pI D h (fun v_22 h_20 => Q (.inl (some (vI v_22))) h_20) (jth Q)))))) ∧ (x1 = (5 : Int32) → r0 ≠ 0 ∧ (Q (.inl (some (vI (jfi h 9 r0)))) h)) ∧ (x1 = (6 : Int32) → r0 ≠ 0 ∧ (Q (.inl (some (vI (jfi h 11 r0)))) h)) ∧ (x1 = (7 : Int32) → r0 ≠ 0 ∧ (((jfi h 12 r0) = 0 → W_X1_count_154 D d Q (0 : Int32) h) ∧ (¬ (jfi h 12 r0) = 0 → W_X1_count_154 D d Q (1 : Int32) h))) ∧ (x1 = (8 : Int32) → r0 ≠ 0 ∧ (Q (.inl (some (vI (jfi h 1 r0)))) h)) ∧ (¬ x1 = (0 : Int32) → ¬ x1 = (1 : Int32) → ¬ x1 = (2 : Int32) → ¬ x1 = (3 : Int32) → ¬ x1 = (4 : Int32) → ¬ x1 = (5 : Int32) → ¬ x1 = (6 : Int32) → ¬ x1 = (7 : Int32) → ¬ x1 = (8 : Int32) → ∀ (r_32 : Nat) (h_33 : JH), r_32 = jsz h + 1 → h_33 = nwo h 13 6 → (jkd h_33 r_32 = 13 ∧ jfi h_33 330 r_32 = 0 ∧ 6 ≤ d + 1 ∧ ∀ h_39 : JH, h_39 = wfi h_33 330 r_32 1 → (Q (.inr r_32) h_39)))
theorem w_X1_count_0 {D : JD} {d : Nat} {Q : JO → JH → Prop} {r0 : Nat} {x1 : Int32} {h : JH} (w : W_X1_count_0 D d Q r0 x1 h) : JW D (d + 1) mX1_count 0 [some (vR 1 r0), some (vI x1)] [] h Q := by
  unfold W_X1_count_0 at w
  refine jw_iload_n (pc' := 1) rfl rfl ?_
  refine jw_tsw (cs := [((0 : Int32), 52), ((1 : Int32), 57), ((2 : Int32), 65), ((3 : Int32), 110), ((4 : Int32), 121), ((5 : Int32), 132), ((6 : Int32), 137), ((7 : Int32), 142), ((8 : Int32), 155)]) (dt := 160) rfl (by decide +kernel) ?_
  by_cases c_1 : x1 = (0 : Int32)
  · rw [jsw_hit c_1]
    replace w := w.1 c_1
    refine jw_aload_n (pc' := 53) rfl rfl ?_
    obtain ⟨g_2, w⟩ := w
    refine jw_getI (pc' := 56) (F := 3) rfl rfl rfl rfl g_2 ?_
    exact jw_ireturn rfl rfl (rfl) w
  · rw [jsw_miss c_1]
    replace w := w.2
    by_cases c_3 : x1 = (1 : Int32)
    · rw [jsw_hit c_3]
      replace w := w.1 c_3
      refine jw_aload_n (pc' := 58) rfl rfl ?_
      obtain ⟨g_4, w⟩ := w
      refine jw_getR (pc' := 61) (F := 4) (t' := 112) rfl rfl rfl rfl rfl g_4 ?_
      obtain ⟨g_5, w⟩ := w
      refine jw_getI (pc' := 64) (F := 18) rfl rfl rfl rfl g_5 ?_
      exact jw_ireturn rfl rfl (rfl) w
    · rw [jsw_miss c_3]
      replace w := w.2
      by_cases c_6 : x1 = (2 : Int32)
      · rw [jsw_hit c_6]
        replace w := w.1 c_6
        refine jw_aload_n (pc' := 66) rfl rfl ?_
        obtain ⟨g_7, w⟩ := w
        refine jw_getI (pc' := 69) (F := 5) rfl rfl rfl rfl g_7 ?_
        refine jw_iconst (pc' := 70) (x := (2 : Int32)) rfl rfl ?_
        refine jw_icmp_eq (tgt := 80) (pc' := 73) rfl rfl (fun c_8 => ?_) (fun c_8 => ?_)
        · replace w := w.1 c_8
          refine jw_aload_n (pc' := 81) rfl rfl ?_
          refine jw_getR (pc' := 84) (F := 7) (t' := 3) rfl rfl rfl rfl rfl g_7 ?_
          obtain ⟨g_9, w⟩ := w
          refine jw_getI (pc' := 87) (F := 36) rfl rfl rfl rfl g_9 ?_
          refine jw_if_ne (tgt := 94) (pc' := 90) rfl rfl (fun c_10 => ?_) (fun c_10 => ?_)
          · replace w := w.1 c_10
            refine jw_aload_n (pc' := 95) rfl rfl ?_
            refine jw_getR (pc' := 98) (F := 7) (t' := 3) rfl rfl rfl rfl rfl g_7 ?_
            refine jw_getI (pc' := 101) (F := 37) rfl rfl rfl rfl g_9 ?_
            refine jw_if_eq (tgt := 108) (pc' := 104) rfl rfl (fun c_11 => ?_) (fun c_11 => ?_)
            · replace w := w.1 c_11
              refine jw_iconst (pc' := 109) (x := (3 : Int32)) rfl rfl ?_
              refine jw_gen (ls' := [none, none]) (st' := [vI (3 : Int32)]) (trivial) (And.intro (Or.inl rfl) (trivial)) ?_
              exact w_X1_count_109 w
            · replace w := w.2 c_11
              refine jw_iconst (pc' := 105) (x := (4 : Int32)) rfl rfl ?_
              refine jw_goto (pc' := 109) rfl rfl ?_
              refine jw_gen (ls' := [none, none]) (st' := [vI (4 : Int32)]) (trivial) (And.intro (Or.inl rfl) (trivial)) ?_
              exact w_X1_count_109 w
          · replace w := w.2 c_10
            refine jw_iconst (pc' := 91) (x := (2 : Int32)) rfl rfl ?_
            refine jw_goto (pc' := 109) rfl rfl ?_
            refine jw_gen (ls' := [none, none]) (st' := [vI (2 : Int32)]) (trivial) (And.intro (Or.inl rfl) (trivial)) ?_
            exact w_X1_count_109 w
        · replace w := w.2 c_8
          refine jw_aload_n (pc' := 74) rfl rfl ?_
          refine jw_getI (pc' := 77) (F := 5) rfl rfl rfl rfl g_7 ?_
          refine jw_goto (pc' := 109) rfl rfl ?_
          refine jw_gen (ls' := [none, none]) (st' := [vI (jfi h 5 r0)]) (trivial) (And.intro (Or.inl rfl) (trivial)) ?_
          exact w_X1_count_109 w
      · rw [jsw_miss c_6]
        replace w := w.2
        by_cases c_12 : x1 = (3 : Int32)
        · rw [jsw_hit c_12]
          replace w := w.1 c_12
          refine jw_aload_n (pc' := 111) rfl rfl ?_
          obtain ⟨g_13, w⟩ := w
          refine jw_getR (pc' := 114) (F := 7) (t' := 3) rfl rfl rfl rfl rfl g_13 ?_
          obtain ⟨g_14, w⟩ := w
          refine jw_getR (pc' := 117) (F := 20) (t' := 114) rfl rfl rfl rfl rfl g_14 ?_
          obtain ⟨g_15, w⟩ := w
          refine jw_getI (pc' := 120) (F := 41) rfl rfl rfl rfl g_15 ?_
          exact jw_ireturn rfl rfl (rfl) w
        · rw [jsw_miss c_12]
          replace w := w.2
          by_cases c_16 : x1 = (4 : Int32)
          · rw [jsw_hit c_16]
            replace w := w.1 c_16
            refine jw_aload_n (pc' := 122) rfl rfl ?_
            obtain ⟨g_17, w⟩ := w
            refine jw_getR (pc' := 125) (F := 7) (t' := 3) rfl rfl rfl rfl rfl g_17 ?_
            obtain ⟨g_18, w⟩ := w
            refine jw_getR (pc' := 128) (F := 20) (t' := 114) rfl rfl rfl rfl rfl g_18 ?_
            obtain ⟨g_19, w⟩ := w
            refine jw_cI (st := []) (sa := [vR 114 (jfr h 20 (jfr h 7 r0))]) okX4_rows rfl rfl rfl rfl rfl rfl (jstp_virtual (sa := []) (st := []) (k := 0) rfl rfl sX4_rows okX4_rows g_19 (one114.k g_19) rfl rfl) w (fun v_22 h_20 _ _ w => ?_)
            exact jw_ireturn rfl rfl (rfl) w
          · rw [jsw_miss c_16]
            replace w := w.2
            by_cases c_23 : x1 = (5 : Int32)
            · rw [jsw_hit c_23]
              replace w := w.1 c_23
              refine jw_aload_n (pc' := 133) rfl rfl ?_
              obtain ⟨g_24, w⟩ := w
              refine jw_getI (pc' := 136) (F := 9) rfl rfl rfl rfl g_24 ?_
              exact jw_ireturn rfl rfl (rfl) w
            · rw [jsw_miss c_23]
              replace w := w.2
              by_cases c_25 : x1 = (6 : Int32)
              · rw [jsw_hit c_25]
                replace w := w.1 c_25
                refine jw_aload_n (pc' := 138) rfl rfl ?_
                obtain ⟨g_26, w⟩ := w
                refine jw_getI (pc' := 141) (F := 11) rfl rfl rfl rfl g_26 ?_
                exact jw_ireturn rfl rfl (rfl) w
              · rw [jsw_miss c_25]
                replace w := w.2
                by_cases c_27 : x1 = (7 : Int32)
                · rw [jsw_hit c_27]
                  replace w := w.1 c_27
                  refine jw_aload_n (pc' := 143) rfl rfl ?_
                  obtain ⟨g_28, w⟩ := w
                  refine jw_getI (pc' := 146) (F := 12) rfl rfl rfl rfl g_28 ?_
                  refine jw_if_eq (tgt := 153) (pc' := 149) rfl rfl (fun c_29 => ?_) (fun c_29 => ?_)
                  · replace w := w.1 c_29
                    refine jw_iconst (pc' := 154) (x := (0 : Int32)) rfl rfl ?_
                    refine jw_gen (ls' := [none, none]) (st' := [vI (0 : Int32)]) (trivial) (And.intro (Or.inl rfl) (trivial)) ?_
                    exact w_X1_count_154 w
                  · replace w := w.2 c_29
                    refine jw_iconst (pc' := 150) (x := (1 : Int32)) rfl rfl ?_
                    refine jw_goto (pc' := 154) rfl rfl ?_
                    refine jw_gen (ls' := [none, none]) (st' := [vI (1 : Int32)]) (trivial) (And.intro (Or.inl rfl) (trivial)) ?_
                    exact w_X1_count_154 w
                · rw [jsw_miss c_27]
                  replace w := w.2
                  by_cases c_30 : x1 = (8 : Int32)
                  · rw [jsw_hit c_30]
                    replace w := w.1 c_30
                    refine jw_aload_n (pc' := 156) rfl rfl ?_
                    obtain ⟨g_31, w⟩ := w
                    refine jw_getI (pc' := 159) (F := 1) rfl rfl rfl rfl g_31 ?_
                    exact jw_ireturn rfl rfl (rfl) w
                  · rw [jsw_miss c_30]
                    replace w := w.2
                    rw [jsw_nil]
                    replace w := w c_1 c_3 c_6 c_12 c_16 c_23 c_25 c_27 c_30
                    refine jw_new' (pc' := 163) (k := 13) (n := 6) rfl rfl rfl rfl rfl rfl rfl (fun r_32 h_33 e_34 e_35 => ?_)
                    replace w := w r_32 h_33 e_34 e_35
                    refine jw_dup (pc' := 164) rfl rfl ?_
                    obtain ⟨g_36, w⟩ := w
                    obtain ⟨g_37, w⟩ := w
                    obtain ⟨g_38, w⟩ := w
                    refine jw_exc13' (pc' := 167) rfl g_36 g_37 g_38 rfl (jnz e_34) (lw_g (jtb_mem (c := 14) (i := 222) rfl) rfl) (fun h_39 e_40 => ?_)
                    replace w := w h_39 e_40
                    exact jw_athrow rfl rfl (jnz e_34) w
def T_X1_count (D : JD) (d : Nat) (Q : JO → JH → Prop) (r0 : Nat) (x1 : Int32) (h : JH) : Prop := W_X1_count_0 D d Q r0 x1 h
theorem t_X1_count {D : JD} {d : Nat} {Q : JO → JH → Prop} {r0 : Nat} {x1 : Int32} {h : JH} (w : T_X1_count D d Q r0 x1 h) : cX1_count D (d + 1) r0 x1 h Q := by
  unfold T_X1_count at w
  unfold cX1_count
  exact w_X1_count_0 w
def W_X14_init_0 (D : JD) (d : Nat) (Q : JO → JH → Prop) (r0 : Nat) (h : JH) : Prop :=
  r0 ≠ 0 ∧ (∀ h_2 : JH, h_2 = wfr h 64 r0 (jcs D 345) → (∀ h_4 : JH, h_4 = wfi h_2 65 r0 (1 : Int32) → (Q (.inl none) h_4)))
theorem w_X14_init_0 {D : JD} {d : Nat} {Q : JO → JH → Prop} {r0 : Nat} {h : JH} (w : W_X14_init_0 D d Q r0 h) : JW D (d + 1) mX14_init 0 [some (vR 8 r0)] [] h Q := by
  unfold W_X14_init_0 at w
  refine jw_aload_n (pc' := 1) rfl rfl ?_
  obtain ⟨g_1, w⟩ := w
  refine jw_obj (pc' := 4) rfl (lw_g (jtb_mem (c := 2) (i := 223) rfl) rfl) rfl g_1 ?_
  refine jw_aload_n (pc' := 5) rfl rfl ?_
  refine jw_getsR (pc' := 8) rfl rfl rfl rfl ?_
  refine jw_putR' (pc' := 11) (F := 64) rfl rfl rfl (Or.inr rfl) (Or.inl rfl) rfl rfl rfl g_1 (fun h_2 e_3 => ?_)
  replace w := w h_2 e_3
  refine jw_aload_n (pc' := 12) rfl rfl ?_
  refine jw_iconst (pc' := 13) (x := (1 : Int32)) rfl rfl ?_
  refine jw_putI' (pc' := 16) (F := 65) rfl rfl rfl (Or.inr rfl) (Or.inl rfl) rfl (rfl) (rfl) rfl g_1 (fun h_4 e_5 => ?_)
  replace w := w h_4 e_5
  exact jw_return rfl rfl w
def T_X14_init (D : JD) (d : Nat) (Q : JO → JH → Prop) (r0 : Nat) (h : JH) : Prop := W_X14_init_0 D d Q r0 h
theorem t_X14_init {D : JD} {d : Nat} {Q : JO → JH → Prop} {r0 : Nat} {h : JH} (w : T_X14_init D d Q r0 h) : cX14_init D (d + 1) r0 h Q := by
  unfold T_X14_init at w
  unfold cX14_init
  exact w_X14_init_0 w
def W_X14_copy_62 (D : JD) (d : Nat) (Q : JO → JH → Prop) (r0 : Nat) (h : JH) : Prop :=
  Q (.inl (some (vR 8 r0))) h
theorem w_X14_copy_62 {D : JD} {d : Nat} {Q : JO → JH → Prop} {r0 : Nat} {h : JH} (w : W_X14_copy_62 D d Q r0 h) : JW D (d + 1) mX14_copy 62 [some (vR 8 r0), none] [] h Q := by
  unfold W_X14_copy_62 at w
  refine jw_aload_n (pc' := 63) rfl rfl ?_
  exact jw_areturn rfl rfl rfl rfl rfl w
def W_X14_copy_0 (D : JD) (d : Nat) (Q : JO → JH → Prop) (r0 : Nat) (r1 : Nat) (h : JH) : Prop :=
  (¬ r1 = r0 → r1 ≠ 0 ∧ (r0 ≠ 0 ∧ jbo (jfi h 65 r1) ∧ ∀ h_5 : JH, h_5 = wfi h 65 r0 (jfi h 65 r1) → (∀ h_7 : JH, h_7 = wfr h_5 64 r0 (jfr h_5 64 r1) → (∀ h_9 : JH, h_9 = wfl h_7 66 r0 (jfl h_7 66 r1) → ((¬ (jfi h_9 65 r0) = 0 → W_X14_copy_62 D d Q r0 h_9) ∧ ((jfi h_9 65 r0) = 0 → (¬ (jfr h_9 64 r0) = (jcs D 346) → W_X14_copy_62 D d Q r0 h_9) ∧ ((jfr h_9 64 r0) = (jcs D 346) → cX14_text D d r0 (jfr h_9 67 r1) (0 : Int32) (jfi h_9 68 r1) h_9 (pR D h_9 8 (fun v_15 h_13 => Q (.inl (some (vR 8 v_15))) h_13) (jth Q))))))))) ∧ (r1 = r0 → Q (.inl (some (vR 8 r0))) h)
theorem w_X14_copy_0 {D : JD} {d : Nat} {Q : JO → JH → Prop} {r0 : Nat} {r1 : Nat} {h : JH} (w : W_X14_copy_0 D d Q r0 r1 h) : JW D (d + 1) mX14_copy 0 [some (vR 8 r0), some (vR 8 r1)] [] h Q := by
  unfold W_X14_copy_0 at w
  refine jw_aload_n (pc' := 1) rfl rfl ?_
  refine jw_aload_n (pc' := 2) rfl rfl ?_
  refine jw_acmp_ne (tgt := 7) (pc' := 5) rfl rfl (fun c_1 => ?_) (fun c_1 => ?_)
  · replace w := w.1 c_1
    refine jw_aload_n (pc' := 8) rfl rfl ?_
    refine jw_aload_n (pc' := 9) rfl rfl ?_
    obtain ⟨g_2, w⟩ := w
    refine jw_getI (pc' := 12) (F := 65) rfl rfl rfl rfl g_2 ?_
    obtain ⟨g_3, w⟩ := w
    obtain ⟨g_4, w⟩ := w
    refine jw_putI' (pc' := 15) (F := 65) rfl rfl rfl (Or.inr rfl) (Or.inl rfl) rfl (g_4.nr) (g_4.ft) rfl g_3 (fun h_5 e_6 => ?_)
    replace w := w h_5 e_6
    refine jw_aload_n (pc' := 16) rfl rfl ?_
    refine jw_aload_n (pc' := 17) rfl rfl ?_
    refine jw_getR (pc' := 20) (F := 64) (t' := 52) rfl rfl rfl rfl rfl g_2 ?_
    refine jw_putR' (pc' := 23) (F := 64) rfl rfl rfl (Or.inr rfl) (Or.inl rfl) rfl rfl rfl g_3 (fun h_7 e_8 => ?_)
    replace w := w h_7 e_8
    refine jw_aload_n (pc' := 24) rfl rfl ?_
    refine jw_aload_n (pc' := 25) rfl rfl ?_
    refine jw_getL (pc' := 28) (F := 66) rfl rfl rfl rfl g_2 ?_
    refine jw_putL' (pc' := 31) (F := 66) rfl rfl rfl (Or.inr rfl) (Or.inl rfl) rfl rfl rfl g_3 (fun h_9 e_10 => ?_)
    replace w := w h_9 e_10
    refine jw_aload_n (pc' := 32) rfl rfl ?_
    refine jw_getI (pc' := 35) (F := 65) rfl rfl rfl rfl g_3 ?_
    refine jw_if_ne (tgt := 62) (pc' := 38) rfl rfl (fun c_11 => ?_) (fun c_11 => ?_)
    · replace w := w.1 c_11
      refine jw_gen (ls' := [some (vR 8 r0), none]) (st' := []) (And.intro (Or.inl rfl) (trivial)) (trivial) ?_
      exact w_X14_copy_62 w
    · replace w := w.2 c_11
      refine jw_aload_n (pc' := 39) rfl rfl ?_
      refine jw_getR (pc' := 42) (F := 64) (t' := 52) rfl rfl rfl rfl rfl g_3 ?_
      refine jw_getsR (pc' := 45) rfl rfl rfl rfl ?_
      refine jw_acmp_ne (tgt := 62) (pc' := 48) rfl rfl (fun c_12 => ?_) (fun c_12 => ?_)
      · replace w := w.1 c_12
        refine jw_gen (ls' := [some (vR 8 r0), none]) (st' := []) (And.intro (Or.inl rfl) (trivial)) (trivial) ?_
        exact w_X14_copy_62 w
      · replace w := w.2 c_12
        refine jw_aload_n (pc' := 49) rfl rfl ?_
        refine jw_aload_n (pc' := 50) rfl rfl ?_
        refine jw_getR (pc' := 53) (F := 67) (t' := 144) rfl rfl rfl rfl rfl g_2 ?_
        refine jw_iconst (pc' := 54) (x := (0 : Int32)) rfl rfl ?_
        refine jw_aload_n (pc' := 55) rfl rfl ?_
        refine jw_getI (pc' := 58) (F := 68) rfl rfl rfl rfl g_2 ?_
        refine jw_cR (st := []) (sa := [vR 8 r0, vR 144 (jfr h_9 67 r1), vI (0 : Int32), vI (jfi h_9 68 r1)]) okX14_text rfl rfl rfl rfl rfl rfl (jstp_virtual (sa := [vR 144 (jfr h_9 67 r1), vI (0 : Int32), vI (jfi h_9 68 r1)]) (st := []) (k := 0) rfl rfl sX14_text okX14_text g_3 (one8.k g_3) rfl rfl) w (fun v_15 h_13 _ _ _ w => ?_)
        exact jw_areturn rfl rfl rfl rfl rfl w
  · replace w := w.2 c_1
    refine jw_aload_n (pc' := 6) rfl rfl ?_
    exact jw_areturn rfl rfl rfl rfl rfl w
def T_X14_copy (D : JD) (d : Nat) (Q : JO → JH → Prop) (r0 : Nat) (r1 : Nat) (h : JH) : Prop := W_X14_copy_0 D d Q r0 r1 h
theorem t_X14_copy {D : JD} {d : Nat} {Q : JO → JH → Prop} {r0 : Nat} {r1 : Nat} {h : JH} (w : T_X14_copy D d Q r0 r1 h) : cX14_copy D (d + 1) r0 r1 h Q := by
  unfold T_X14_copy at w
  unfold cX14_copy
  exact w_X14_copy_0 w
def W_X14_text_32 (D : JD) (d : Nat) (Q : JO → JH → Prop) (K32 : Nat → Nat → Int32 → Int32 → Int32 → JH → Prop) (r0 : Nat) (r1 : Nat) (x2 : Int32) (x3 : Int32) (x4 : Int32) (h : JH) : Prop :=
  (x3 ≤ x4 → r0 ≠ 0 ∧ ∀ h_3 : JH, h_3 = wfi h 68 r0 x3 → (Q (.inl (some (vR 8 r0))) h_3)) ∧ (¬ x3 ≤ x4 → r0 ≠ 0 ∧ (r1 ≠ 0 ∧ jin (x2 + x4) (jln h r1) ∧ ((jfr h 67 r0) ≠ 0 ∧ jin x4 (jln h (jfr h 67 r0)) ∧ ∀ h_10 : JH, h_10 = wai h (jfr h 67 r0) (ixn x4) ((Int32.toInt8 (jai h r1 (ixn (x2 + x4)))).toInt32) → (K32 r0 r1 x2 x3 (x4 + (1 : Int32)) h_10))))
theorem w_X14_text_32 {D : JD} {d : Nat} {Q : JO → JH → Prop} {K32 : Nat → Nat → Int32 → Int32 → Int32 → JH → Prop} {r0 : Nat} {r1 : Nat} {x2 : Int32} {x3 : Int32} {x4 : Int32} {h : JH} (hK32 : ∀ (r0 : Nat) (r1 : Nat) (x2 : Int32) (x3 : Int32) (x4 : Int32) (h : JH), K32 r0 r1 x2 x3 x4 h → JW D (d + 1) mX14_text 32 [some (vR 8 r0), some (vR 65 r1), some (vI x2), some (vI x3), some (vI x4)] [] h Q) (w : W_X14_text_32 D d Q K32 r0 r1 x2 x3 x4 h) : JW D (d + 1) mX14_text 32 [some (vR 8 r0), some (vR 65 r1), some (vI x2), some (vI x3), some (vI x4)] [] h Q := by
  unfold W_X14_text_32 at w
  refine jw_iload (pc' := 34) rfl rfl ?_
  refine jw_iload_n (pc' := 35) rfl rfl ?_
  refine jw_icmp_ge (tgt := 57) (pc' := 38) rfl rfl (fun c_1 => ?_) (fun c_1 => ?_)
  · replace w := w.1 c_1
    refine jw_aload_n (pc' := 58) rfl rfl ?_
    refine jw_iload_n (pc' := 59) rfl rfl ?_
    obtain ⟨g_2, w⟩ := w
    refine jw_putI' (pc' := 62) (F := 68) rfl rfl rfl (Or.inr rfl) (Or.inl rfl) rfl (rfl) (rfl) rfl g_2 (fun h_3 e_4 => ?_)
    replace w := w h_3 e_4
    refine jw_aload_n (pc' := 63) rfl rfl ?_
    exact jw_areturn rfl rfl rfl rfl rfl w
  · replace w := w.2 c_1
    refine jw_aload_n (pc' := 39) rfl rfl ?_
    obtain ⟨g_5, w⟩ := w
    refine jw_getR (pc' := 42) (F := 67) (t' := 144) rfl rfl rfl rfl rfl g_5 ?_
    refine jw_iload (pc' := 44) rfl rfl ?_
    refine jw_aload_n (pc' := 45) rfl rfl ?_
    refine jw_iload_n (pc' := 46) rfl rfl ?_
    refine jw_iload (pc' := 48) rfl rfl ?_
    refine jw_iadd (pc' := 49) rfl ?_
    obtain ⟨g_6, w⟩ := w
    obtain ⟨g_7, w⟩ := w
    refine jw_bald (pc' := 50) rfl rfl rfl rfl g_6 g_7.ix g_7.2 ?_
    obtain ⟨g_8, w⟩ := w
    obtain ⟨g_9, w⟩ := w
    refine jw_bast' (pc' := 51) rfl rfl rfl rfl rfl g_8 g_9 (fun h_10 e_11 => ?_)
    replace w := w h_10 e_11
    refine jw_iinc (pc' := 54) (y := x4 + (1 : Int32)) (ls' := [some (vR 8 r0), some (vR 65 r1), some (vI x2), some (vI x3), some (vI (x4 + (1 : Int32)))]) rfl (by decide) rfl rfl rfl ?_
    refine jw_goto (pc' := 32) rfl rfl ?_
    exact hK32 _ _ _ _ _ _ w
def L_X14_text_32 (D : JD) (d : Nat) (Q : JO → JH → Prop) : Nat → Nat → Nat → Int32 → Int32 → Int32 → JH → Prop
  | 0 => fun _ _ _ _ _ _ => False
  | n + 1 => fun r0 r1 x2 x3 x4 h => W_X14_text_32 D d Q (L_X14_text_32 D d Q n) r0 r1 x2 x3 x4 h
theorem l_X14_text_32 {D : JD} {d : Nat} {Q : JO → JH → Prop} : ∀ (n : Nat) (r0 : Nat) (r1 : Nat) (x2 : Int32) (x3 : Int32) (x4 : Int32) (h : JH), L_X14_text_32 D d Q n r0 r1 x2 x3 x4 h → JW D (d + 1) mX14_text 32 [some (vR 8 r0), some (vR 65 r1), some (vI x2), some (vI x3), some (vI x4)] [] h Q := by
  intro n
  induction n with
  | zero => intro _ _ _ _ _ _ w; exact w.elim
  | succ n ih => intro _ _ _ _ _ h w; exact w_X14_text_32 ih w
def W_X14_text_0 (D : JD) (d : Nat) (Q : JO → JH → Prop) (r0 : Nat) (r1 : Nat) (x2 : Int32) (x3 : Int32) (h : JH) : Prop :=
  (x3 ≤ (40 : Int32) → r0 ≠ 0 ∧ ∀ h_3 : JH, h_3 = wfi h 65 r0 (0 : Int32) → (∀ h_5 : JH, h_5 = wfr h_3 64 r0 (jcs D 346) → (cX14_room D d r0 h_5 (pR D h_5 65 (fun v_9 h_7 => ∃ n, L_X14_text_32 D d Q n r0 r1 x2 x3 (0 : Int32) h_7) (jth Q))))) ∧ (¬ x3 ≤ (40 : Int32) → cX1_fault D d (jcs D 1) h (pR D h 9 (fun v_12 h_10 => v_12 ≠ 0 ∧ (Q (.inr v_12) h_10)) (jth Q)))
theorem w_X14_text_0 {D : JD} {d : Nat} {Q : JO → JH → Prop} {r0 : Nat} {r1 : Nat} {x2 : Int32} {x3 : Int32} {h : JH} (w : W_X14_text_0 D d Q r0 r1 x2 x3 h) : JW D (d + 1) mX14_text 0 [some (vR 8 r0), some (vR 65 r1), some (vI x2), some (vI x3), none] [] h Q := by
  unfold W_X14_text_0 at w
  refine jw_iload_n (pc' := 1) rfl rfl ?_
  refine jw_bipush (pc' := 3) (x := (40 : Int32)) rfl rfl ?_
  refine jw_icmp_le (tgt := 12) (pc' := 6) rfl rfl (fun c_1 => ?_) (fun c_1 => ?_)
  · replace w := w.1 c_1
    refine jw_aload_n (pc' := 13) rfl rfl ?_
    refine jw_iconst (pc' := 14) (x := (0 : Int32)) rfl rfl ?_
    obtain ⟨g_2, w⟩ := w
    refine jw_putI' (pc' := 17) (F := 65) rfl rfl rfl (Or.inr rfl) (Or.inl rfl) rfl (rfl) (rfl) rfl g_2 (fun h_3 e_4 => ?_)
    replace w := w h_3 e_4
    refine jw_aload_n (pc' := 18) rfl rfl ?_
    refine jw_getsR (pc' := 21) rfl rfl rfl rfl ?_
    refine jw_putR' (pc' := 24) (F := 64) rfl rfl rfl (Or.inr rfl) (Or.inl rfl) rfl rfl rfl g_2 (fun h_5 e_6 => ?_)
    replace w := w h_5 e_6
    refine jw_aload_n (pc' := 25) rfl rfl ?_
    refine jw_cR (st := []) (sa := [vR 8 r0]) okX14_room rfl rfl rfl rfl rfl rfl (jstp_virtual (sa := []) (st := []) (k := 0) rfl rfl sX14_room okX14_room g_2 (one8.k g_2) rfl rfl) w (fun v_9 h_7 _ _ _ w => ?_)
    refine jw_pop (pc' := 29) rfl rfl ?_
    refine jw_iconst (pc' := 30) (x := (0 : Int32)) rfl rfl ?_
    refine jw_istore (pc' := 32) (ls' := [some (vR 8 r0), some (vR 65 r1), some (vI x2), some (vI x3), some (vI (0 : Int32))]) rfl (by decide) rfl ?_
    obtain ⟨n, w⟩ := w
    exact l_X14_text_32 n _ _ _ _ _ _ w
  · replace w := w.2 c_1
    refine jw_ldcS (pc' := 8) rfl rfl rfl rfl ?_
    refine jw_cR (st := []) (sa := [vR 51 (jcs D 1)]) okX1_fault rfl rfl rfl rfl rfl rfl (jstp_static (sa := [vR 51 (jcs D 1)]) (st := []) rfl rfl sX1_fault okX1_fault rfl rfl) w (fun v_12 h_10 _ _ _ w => ?_)
    obtain ⟨g_13, w⟩ := w
    exact jw_athrow rfl rfl g_13 w
def T_X14_text (D : JD) (d : Nat) (Q : JO → JH → Prop) (r0 : Nat) (r1 : Nat) (x2 : Int32) (x3 : Int32) (h : JH) : Prop := W_X14_text_0 D d Q r0 r1 x2 x3 h
theorem t_X14_text {D : JD} {d : Nat} {Q : JO → JH → Prop} {r0 : Nat} {r1 : Nat} {x2 : Int32} {x3 : Int32} {h : JH} (w : T_X14_text D d Q r0 r1 x2 x3 h) : cX14_text D (d + 1) r0 r1 x2 x3 h Q := by
  unfold T_X14_text at w
  unfold cX14_text
  exact w_X14_text_0 w
def W_X14_room_15 (D : JD) (d : Nat) (Q : JO → JH → Prop) (r0 : Nat) (h : JH) : Prop :=
  r0 ≠ 0 ∧ (Q (.inl (some (vR 65 (jfr h 67 r0)))) h)
theorem w_X14_room_15 {D : JD} {d : Nat} {Q : JO → JH → Prop} {r0 : Nat} {h : JH} (w : W_X14_room_15 D d Q r0 h) : JW D (d + 1) mX14_room 15 [some (vR 8 r0)] [] h Q := by
  unfold W_X14_room_15 at w
  refine jw_aload_n (pc' := 16) rfl rfl ?_
  obtain ⟨g_1, w⟩ := w
  refine jw_getR (pc' := 19) (F := 67) (t' := 144) rfl rfl rfl rfl rfl g_1 ?_
  exact jw_areturn rfl rfl rfl rfl rfl w
def W_X14_room_0 (D : JD) (d : Nat) (Q : JO → JH → Prop) (r0 : Nat) (h : JH) : Prop :=
  r0 ≠ 0 ∧ (((jfr h 67 r0) ≠ 0 → W_X14_room_15 D d Q r0 h) ∧ ((jfr h 67 r0) = 0 → ∀ (r_3 : Nat) (h_4 : JH), r_3 = jsz h + 1 → h_4 = nwa h 144 40 → (∀ h_7 : JH, h_7 = wfr h_4 67 r0 r_3 → (W_X14_room_15 D d Q r0 h_7))))
theorem w_X14_room_0 {D : JD} {d : Nat} {Q : JO → JH → Prop} {r0 : Nat} {h : JH} (w : W_X14_room_0 D d Q r0 h) : JW D (d + 1) mX14_room 0 [some (vR 8 r0)] [] h Q := by
  unfold W_X14_room_0 at w
  refine jw_aload_n (pc' := 1) rfl rfl ?_
  obtain ⟨g_1, w⟩ := w
  refine jw_getR (pc' := 4) (F := 67) (t' := 144) rfl rfl rfl rfl rfl g_1 ?_
  refine jw_ifnonnull (tgt := 15) (pc' := 7) rfl rfl (fun c_2 => ?_) (fun c_2 => ?_)
  · replace w := w.1 c_2
    exact w_X14_room_15 w
  · replace w := w.2 c_2
    refine jw_aload_n (pc' := 8) rfl rfl ?_
    refine jw_bipush (pc' := 10) (x := (40 : Int32)) rfl rfl ?_
    refine jw_newa' (pc' := 12) (n := 40) (k := 144) rfl rfl rfl rfl rfl rfl (lw_g (jtb_mem (c := 1) (i := 105) rfl) rfl) ⟨by decide, rfl⟩ (by decide) (fun r_3 h_4 e_5 e_6 => ?_)
    replace w := w r_3 h_4 e_5 e_6
    refine jw_putR' (pc' := 15) (F := 67) rfl rfl rfl (Or.inr rfl) (Or.inl rfl) rfl rfl rfl g_1 (fun h_7 e_8 => ?_)
    replace w := w h_7 e_8
    exact w_X14_room_15 w
def T_X14_room (D : JD) (d : Nat) (Q : JO → JH → Prop) (r0 : Nat) (h : JH) : Prop := W_X14_room_0 D d Q r0 h
theorem t_X14_room {D : JD} {d : Nat} {Q : JO → JH → Prop} {r0 : Nat} {h : JH} (w : T_X14_room D d Q r0 h) : cX14_room D (d + 1) r0 h Q := by
  unfold T_X14_room at w
  unfold cX14_room
  exact w_X14_room_0 w
def W_X14_number_16 (D : JD) (d : Nat) (Q : JO → JH → Prop) (h : JH) : Prop :=
  cX1_fault D d (jcs D 105) h (pR D h 9 (fun v_3 h_1 => v_3 ≠ 0 ∧ (Q (.inr v_3) h_1)) (jth Q))
theorem w_X14_number_16 {D : JD} {d : Nat} {Q : JO → JH → Prop} {h : JH} (w : W_X14_number_16 D d Q h) : JW D (d + 1) mX14_number 16 [none, none, none] [] h Q := by
  unfold W_X14_number_16 at w
  refine jw_ldcS (pc' := 18) rfl rfl rfl rfl ?_
  refine jw_cR (st := []) (sa := [vR 51 (jcs D 105)]) okX1_fault rfl rfl rfl rfl rfl rfl (jstp_static (sa := [vR 51 (jcs D 105)]) (st := []) rfl rfl sX1_fault okX1_fault rfl rfl) w (fun v_3 h_1 _ _ _ w => ?_)
  obtain ⟨g_4, w⟩ := w
  exact jw_athrow rfl rfl g_4 w
def W_X14_number_0 (D : JD) (d : Nat) (Q : JO → JH → Prop) (r0 : Nat) (y1 : Int64) (h : JH) : Prop :=
  (0 < (lg_cmp y1 (9007199254740991 : Int64)) → W_X14_number_16 D d Q h) ∧ (¬ 0 < (lg_cmp y1 (9007199254740991 : Int64)) → (0 ≤ (lg_cmp y1 (-9007199254740991 : Int64)) → r0 ≠ 0 ∧ ∀ h_4 : JH, h_4 = wfi h 65 r0 (0 : Int32) → (∀ h_6 : JH, h_6 = wfr h_4 64 r0 (jcs D 356) → (∀ h_8 : JH, h_8 = wfl h_6 66 r0 y1 → (Q (.inl (some (vR 8 r0))) h_8)))) ∧ (¬ 0 ≤ (lg_cmp y1 (-9007199254740991 : Int64)) → W_X14_number_16 D d Q h))
theorem w_X14_number_0 {D : JD} {d : Nat} {Q : JO → JH → Prop} {r0 : Nat} {y1 : Int64} {h : JH} (w : W_X14_number_0 D d Q r0 y1 h) : JW D (d + 1) mX14_number 0 [some (vR 8 r0), some (vL y1), none] [] h Q := by
  unfold W_X14_number_0 at w
  refine jw_lload_n (pc' := 1) rfl rfl ?_
  refine jw_ldc2 (pc' := 4) (v := (9007199254740991 : Int64)) rfl rfl ?_
  refine jw_lcmp (pc' := 5) rfl ?_
  refine jw_if_gt (tgt := 16) (pc' := 8) rfl rfl (fun c_1 => ?_) (fun c_1 => ?_)
  · replace w := w.1 c_1
    refine jw_gen (ls' := [none, none, none]) (st' := []) (trivial) (trivial) ?_
    exact w_X14_number_16 w
  · replace w := w.2 c_1
    refine jw_lload_n (pc' := 9) rfl rfl ?_
    refine jw_ldc2 (pc' := 12) (v := (-9007199254740991 : Int64)) rfl rfl ?_
    refine jw_lcmp (pc' := 13) rfl ?_
    refine jw_if_ge (tgt := 22) (pc' := 16) rfl rfl (fun c_2 => ?_) (fun c_2 => ?_)
    · replace w := w.1 c_2
      refine jw_aload_n (pc' := 23) rfl rfl ?_
      refine jw_iconst (pc' := 24) (x := (0 : Int32)) rfl rfl ?_
      obtain ⟨g_3, w⟩ := w
      refine jw_putI' (pc' := 27) (F := 65) rfl rfl rfl (Or.inr rfl) (Or.inl rfl) rfl (rfl) (rfl) rfl g_3 (fun h_4 e_5 => ?_)
      replace w := w h_4 e_5
      refine jw_aload_n (pc' := 28) rfl rfl ?_
      refine jw_getsR (pc' := 31) rfl rfl rfl rfl ?_
      refine jw_putR' (pc' := 34) (F := 64) rfl rfl rfl (Or.inr rfl) (Or.inl rfl) rfl rfl rfl g_3 (fun h_6 e_7 => ?_)
      replace w := w h_6 e_7
      refine jw_aload_n (pc' := 35) rfl rfl ?_
      refine jw_lload_n (pc' := 36) rfl rfl ?_
      refine jw_putL' (pc' := 39) (F := 66) rfl rfl rfl (Or.inr rfl) (Or.inl rfl) rfl rfl rfl g_3 (fun h_8 e_9 => ?_)
      replace w := w h_8 e_9
      refine jw_aload_n (pc' := 40) rfl rfl ?_
      exact jw_areturn rfl rfl rfl rfl rfl w
    · replace w := w.2 c_2
      refine jw_gen (ls' := [none, none, none]) (st' := []) (trivial) (trivial) ?_
      exact w_X14_number_16 w
def T_X14_number (D : JD) (d : Nat) (Q : JO → JH → Prop) (r0 : Nat) (y1 : Int64) (h : JH) : Prop := W_X14_number_0 D d Q r0 y1 h
theorem t_X14_number {D : JD} {d : Nat} {Q : JO → JH → Prop} {r0 : Nat} {y1 : Int64} {h : JH} (w : T_X14_number D d Q r0 y1 h) : cX14_number D (d + 1) r0 y1 h Q := by
  unfold T_X14_number at w
  unfold cX14_number
  exact w_X14_number_0 w
def W_X14_truth_22 (D : JD) (d : Nat) (Q : JO → JH → Prop) (r0 : Nat) (q0 : Nat) (t1 : Int64) (h : JH) : Prop :=
  q0 ≠ 0 ∧ ∀ h_2 : JH, h_2 = wfl h 66 q0 t1 → (Q (.inl (some (vR 8 r0))) h_2)
theorem w_X14_truth_22 {D : JD} {d : Nat} {Q : JO → JH → Prop} {r0 : Nat} {q0 : Nat} {t1 : Int64} {h : JH} (w : W_X14_truth_22 D d Q r0 q0 t1 h) : JW D (d + 1) mX14_truth 22 [some (vR 8 r0), none] [vL t1, vR 8 q0] h Q := by
  unfold W_X14_truth_22 at w
  obtain ⟨g_1, w⟩ := w
  refine jw_putL' (pc' := 25) (F := 66) rfl rfl rfl (Or.inr rfl) (Or.inl rfl) rfl rfl rfl g_1 (fun h_2 e_3 => ?_)
  replace w := w h_2 e_3
  refine jw_aload_n (pc' := 26) rfl rfl ?_
  exact jw_areturn rfl rfl rfl rfl rfl w
def W_X14_truth_0 (D : JD) (d : Nat) (Q : JO → JH → Prop) (r0 : Nat) (x1 : Int32) (h : JH) : Prop :=
  r0 ≠ 0 ∧ ∀ h_2 : JH, h_2 = wfi h 65 r0 (0 : Int32) → (∀ h_4 : JH, h_4 = wfr h_2 64 r0 (jcs D 357) → ((x1 = 0 → W_X14_truth_22 D d Q r0 r0 (0 : Int64) h_4) ∧ (¬ x1 = 0 → W_X14_truth_22 D d Q r0 r0 (1 : Int64) h_4)))
theorem w_X14_truth_0 {D : JD} {d : Nat} {Q : JO → JH → Prop} {r0 : Nat} {x1 : Int32} {h : JH} (w : W_X14_truth_0 D d Q r0 x1 h) : JW D (d + 1) mX14_truth 0 [some (vR 8 r0), some (vI x1)] [] h Q := by
  unfold W_X14_truth_0 at w
  refine jw_aload_n (pc' := 1) rfl rfl ?_
  refine jw_iconst (pc' := 2) (x := (0 : Int32)) rfl rfl ?_
  obtain ⟨g_1, w⟩ := w
  refine jw_putI' (pc' := 5) (F := 65) rfl rfl rfl (Or.inr rfl) (Or.inl rfl) rfl (rfl) (rfl) rfl g_1 (fun h_2 e_3 => ?_)
  replace w := w h_2 e_3
  refine jw_aload_n (pc' := 6) rfl rfl ?_
  refine jw_getsR (pc' := 9) rfl rfl rfl rfl ?_
  refine jw_putR' (pc' := 12) (F := 64) rfl rfl rfl (Or.inr rfl) (Or.inl rfl) rfl rfl rfl g_1 (fun h_4 e_5 => ?_)
  replace w := w h_4 e_5
  refine jw_aload_n (pc' := 13) rfl rfl ?_
  refine jw_iload_n (pc' := 14) rfl rfl ?_
  refine jw_if_eq (tgt := 21) (pc' := 17) rfl rfl (fun c_6 => ?_) (fun c_6 => ?_)
  · replace w := w.1 c_6
    refine jw_lconst (pc' := 22) (x := (0 : Int64)) rfl rfl ?_
    refine jw_gen (ls' := [some (vR 8 r0), none]) (st' := [vL (0 : Int64), vR 8 r0]) (And.intro (Or.inl rfl) (trivial)) (And.intro (Or.inl rfl) (And.intro (Or.inl rfl) (trivial))) ?_
    exact w_X14_truth_22 w
  · replace w := w.2 c_6
    refine jw_lconst (pc' := 18) (x := (1 : Int64)) rfl rfl ?_
    refine jw_goto (pc' := 22) rfl rfl ?_
    refine jw_gen (ls' := [some (vR 8 r0), none]) (st' := [vL (1 : Int64), vR 8 r0]) (And.intro (Or.inl rfl) (trivial)) (And.intro (Or.inl rfl) (And.intro (Or.inl rfl) (trivial))) ?_
    exact w_X14_truth_22 w
def T_X14_truth (D : JD) (d : Nat) (Q : JO → JH → Prop) (r0 : Nat) (x1 : Int32) (h : JH) : Prop := W_X14_truth_0 D d Q r0 x1 h
theorem t_X14_truth {D : JD} {d : Nat} {Q : JO → JH → Prop} {r0 : Nat} {x1 : Int32} {h : JH} (w : T_X14_truth D d Q r0 x1 h) : cX14_truth D (d + 1) r0 x1 h Q := by
  unfold T_X14_truth at w
  unfold cX14_truth
  exact w_X14_truth_0 w
def W_X14_isEmpty_0 (D : JD) (d : Nat) (Q : JO → JH → Prop) (r0 : Nat) (h : JH) : Prop :=
  r0 ≠ 0 ∧ (jbo (jfi h 65 r0) ∧ (Q (.inl (some (vI (jfi h 65 r0)))) h))
theorem w_X14_isEmpty_0 {D : JD} {d : Nat} {Q : JO → JH → Prop} {r0 : Nat} {h : JH} (w : W_X14_isEmpty_0 D d Q r0 h) : JW D (d + 1) mX14_isEmpty 0 [some (vR 8 r0)] [] h Q := by
  unfold W_X14_isEmpty_0 at w
  refine jw_aload_n (pc' := 1) rfl rfl ?_
  obtain ⟨g_1, w⟩ := w
  refine jw_getI (pc' := 4) (F := 65) rfl rfl rfl rfl g_1 ?_
  obtain ⟨g_2, w⟩ := w
  exact jw_ireturn rfl rfl (g_2.nr) w
def T_X14_isEmpty (D : JD) (d : Nat) (Q : JO → JH → Prop) (r0 : Nat) (h : JH) : Prop := W_X14_isEmpty_0 D d Q r0 h
theorem t_X14_isEmpty {D : JD} {d : Nat} {Q : JO → JH → Prop} {r0 : Nat} {h : JH} (w : T_X14_isEmpty D d Q r0 h) : cX14_isEmpty D (d + 1) r0 h Q := by
  unfold T_X14_isEmpty at w
  unfold cX14_isEmpty
  exact w_X14_isEmpty_0 w
def W_X14_alike_33 (D : JD) (d : Nat) (Q : JO → JH → Prop) (s0 : Int32) (h : JH) : Prop :=
  jbo s0 ∧ (Q (.inl (some (vI s0))) h)
theorem w_X14_alike_33 {D : JD} {d : Nat} {Q : JO → JH → Prop} {s0 : Int32} {h : JH} (w : W_X14_alike_33 D d Q s0 h) : JW D (d + 1) mX14_alike 33 [none, none] [vI s0] h Q := by
  unfold W_X14_alike_33 at w
  obtain ⟨g_1, w⟩ := w
  exact jw_ireturn rfl rfl (g_1.nr) w
def W_X14_alike_32 (D : JD) (d : Nat) (Q : JO → JH → Prop) (h : JH) : Prop :=
  W_X14_alike_33 D d Q (0 : Int32) h
theorem w_X14_alike_32 {D : JD} {d : Nat} {Q : JO → JH → Prop} {h : JH} (w : W_X14_alike_32 D d Q h) : JW D (d + 1) mX14_alike 32 [none, none] [] h Q := by
  unfold W_X14_alike_32 at w
  refine jw_iconst (pc' := 33) (x := (0 : Int32)) rfl rfl ?_
  exact w_X14_alike_33 w
def W_X14_alike_14 (D : JD) (d : Nat) (Q : JO → JH → Prop) (r0 : Nat) (r1 : Nat) (h : JH) : Prop :=
  r0 ≠ 0 ∧ (((jfi h 65 r0) = 0 → W_X14_alike_32 D d Q h) ∧ (¬ (jfi h 65 r0) = 0 → r1 ≠ 0 ∧ (((jfi h 65 r1) = 0 → W_X14_alike_32 D d Q h) ∧ (¬ (jfi h 65 r1) = 0 → W_X14_alike_33 D d Q (1 : Int32) h))))
theorem w_X14_alike_14 {D : JD} {d : Nat} {Q : JO → JH → Prop} {r0 : Nat} {r1 : Nat} {h : JH} (w : W_X14_alike_14 D d Q r0 r1 h) : JW D (d + 1) mX14_alike 14 [some (vR 8 r0), some (vR 8 r1)] [] h Q := by
  unfold W_X14_alike_14 at w
  refine jw_aload_n (pc' := 15) rfl rfl ?_
  obtain ⟨g_1, w⟩ := w
  refine jw_getI (pc' := 18) (F := 65) rfl rfl rfl rfl g_1 ?_
  refine jw_if_eq (tgt := 32) (pc' := 21) rfl rfl (fun c_2 => ?_) (fun c_2 => ?_)
  · replace w := w.1 c_2
    refine jw_gen (ls' := [none, none]) (st' := []) (trivial) (trivial) ?_
    exact w_X14_alike_32 w
  · replace w := w.2 c_2
    refine jw_aload_n (pc' := 22) rfl rfl ?_
    obtain ⟨g_3, w⟩ := w
    refine jw_getI (pc' := 25) (F := 65) rfl rfl rfl rfl g_3 ?_
    refine jw_if_eq (tgt := 32) (pc' := 28) rfl rfl (fun c_4 => ?_) (fun c_4 => ?_)
    · replace w := w.1 c_4
      refine jw_gen (ls' := [none, none]) (st' := []) (trivial) (trivial) ?_
      exact w_X14_alike_32 w
    · replace w := w.2 c_4
      refine jw_iconst (pc' := 29) (x := (1 : Int32)) rfl rfl ?_
      refine jw_goto (pc' := 33) rfl rfl ?_
      refine jw_gen (ls' := [none, none]) (st' := [vI (1 : Int32)]) (trivial) (And.intro (Or.inl rfl) (trivial)) ?_
      exact w_X14_alike_33 w
def W_X14_alike_58 (D : JD) (d : Nat) (Q : JO → JH → Prop) (s0 : Int32) (h : JH) : Prop :=
  jbo s0 ∧ (Q (.inl (some (vI s0))) h)
theorem w_X14_alike_58 {D : JD} {d : Nat} {Q : JO → JH → Prop} {s0 : Int32} {h : JH} (w : W_X14_alike_58 D d Q s0 h) : JW D (d + 1) mX14_alike 58 [none, none] [vI s0] h Q := by
  unfold W_X14_alike_58 at w
  obtain ⟨g_1, w⟩ := w
  exact jw_ireturn rfl rfl (g_1.nr) w
def W_X14_alike_57 (D : JD) (d : Nat) (Q : JO → JH → Prop) (h : JH) : Prop :=
  W_X14_alike_58 D d Q (0 : Int32) h
theorem w_X14_alike_57 {D : JD} {d : Nat} {Q : JO → JH → Prop} {h : JH} (w : W_X14_alike_57 D d Q h) : JW D (d + 1) mX14_alike 57 [none, none] [] h Q := by
  unfold W_X14_alike_57 at w
  refine jw_iconst (pc' := 58) (x := (0 : Int32)) rfl rfl ?_
  exact w_X14_alike_58 w
def W_X14_alike_0 (D : JD) (d : Nat) (Q : JO → JH → Prop) (r0 : Nat) (r1 : Nat) (h : JH) : Prop :=
  r0 ≠ 0 ∧ ((¬ (jfi h 65 r0) = 0 → W_X14_alike_14 D d Q r0 r1 h) ∧ ((jfi h 65 r0) = 0 → r1 ≠ 0 ∧ (((jfi h 65 r1) = 0 → (¬ (jfr h 64 r0) = (jfr h 64 r1) → W_X14_alike_57 D d Q h) ∧ ((jfr h 64 r0) = (jfr h 64 r1) → cX14_order D d r0 r1 h (pI D h (fun v_8 h_6 => (¬ v_8 = 0 → W_X14_alike_57 D d Q h_6) ∧ (v_8 = 0 → W_X14_alike_58 D d Q (1 : Int32) h_6)) (jth Q)))) ∧ (¬ (jfi h 65 r1) = 0 → W_X14_alike_14 D d Q r0 r1 h))))
theorem w_X14_alike_0 {D : JD} {d : Nat} {Q : JO → JH → Prop} {r0 : Nat} {r1 : Nat} {h : JH} (w : W_X14_alike_0 D d Q r0 r1 h) : JW D (d + 1) mX14_alike 0 [some (vR 8 r0), some (vR 8 r1)] [] h Q := by
  unfold W_X14_alike_0 at w
  refine jw_aload_n (pc' := 1) rfl rfl ?_
  obtain ⟨g_1, w⟩ := w
  refine jw_getI (pc' := 4) (F := 65) rfl rfl rfl rfl g_1 ?_
  refine jw_if_ne (tgt := 14) (pc' := 7) rfl rfl (fun c_2 => ?_) (fun c_2 => ?_)
  · replace w := w.1 c_2
    exact w_X14_alike_14 w
  · replace w := w.2 c_2
    refine jw_aload_n (pc' := 8) rfl rfl ?_
    obtain ⟨g_3, w⟩ := w
    refine jw_getI (pc' := 11) (F := 65) rfl rfl rfl rfl g_3 ?_
    refine jw_if_eq (tgt := 34) (pc' := 14) rfl rfl (fun c_4 => ?_) (fun c_4 => ?_)
    · replace w := w.1 c_4
      refine jw_aload_n (pc' := 35) rfl rfl ?_
      refine jw_getR (pc' := 38) (F := 64) (t' := 52) rfl rfl rfl rfl rfl g_1 ?_
      refine jw_aload_n (pc' := 39) rfl rfl ?_
      refine jw_getR (pc' := 42) (F := 64) (t' := 52) rfl rfl rfl rfl rfl g_3 ?_
      refine jw_acmp_ne (tgt := 57) (pc' := 45) rfl rfl (fun c_5 => ?_) (fun c_5 => ?_)
      · replace w := w.1 c_5
        refine jw_gen (ls' := [none, none]) (st' := []) (trivial) (trivial) ?_
        exact w_X14_alike_57 w
      · replace w := w.2 c_5
        refine jw_aload_n (pc' := 46) rfl rfl ?_
        refine jw_aload_n (pc' := 47) rfl rfl ?_
        refine jw_cI (st := []) (sa := [vR 8 r0, vR 8 r1]) okX14_order rfl rfl rfl rfl rfl rfl (jstp_virtual (sa := [vR 8 r1]) (st := []) (k := 0) rfl rfl sX14_order okX14_order g_1 (one8.k g_1) rfl rfl) w (fun v_8 h_6 _ _ w => ?_)
        refine jw_if_ne (tgt := 57) (pc' := 53) rfl rfl (fun c_9 => ?_) (fun c_9 => ?_)
        · replace w := w.1 c_9
          refine jw_gen (ls' := [none, none]) (st' := []) (trivial) (trivial) ?_
          exact w_X14_alike_57 w
        · replace w := w.2 c_9
          refine jw_iconst (pc' := 54) (x := (1 : Int32)) rfl rfl ?_
          refine jw_goto (pc' := 58) rfl rfl ?_
          refine jw_gen (ls' := [none, none]) (st' := [vI (1 : Int32)]) (trivial) (And.intro (Or.inl rfl) (trivial)) ?_
          exact w_X14_alike_58 w
    · replace w := w.2 c_4
      exact w_X14_alike_14 w
def T_X14_alike (D : JD) (d : Nat) (Q : JO → JH → Prop) (r0 : Nat) (r1 : Nat) (h : JH) : Prop := W_X14_alike_0 D d Q r0 r1 h
theorem t_X14_alike {D : JD} {d : Nat} {Q : JO → JH → Prop} {r0 : Nat} {r1 : Nat} {h : JH} (w : T_X14_alike D d Q r0 r1 h) : cX14_alike D (d + 1) r0 r1 h Q := by
  unfold T_X14_alike at w
  unfold cX14_alike
  exact w_X14_alike_0 w
def W_X14_order_75 (D : JD) (d : Nat) (Q : JO → JH → Prop) (r0 : Nat) (r1 : Nat) (h : JH) : Prop :=
  r0 ≠ 0 ∧ (r1 ≠ 0 ∧ (Q (.inl (some (vI ((jfi h 68 r0) - (jfi h 68 r1))))) h))
theorem w_X14_order_75 {D : JD} {d : Nat} {Q : JO → JH → Prop} {r0 : Nat} {r1 : Nat} {h : JH} (w : W_X14_order_75 D d Q r0 r1 h) : JW D (d + 1) mX14_order 75 [some (vR 8 r0), some (vR 8 r1), none] [] h Q := by
  unfold W_X14_order_75 at w
  refine jw_aload_n (pc' := 76) rfl rfl ?_
  obtain ⟨g_1, w⟩ := w
  refine jw_getI (pc' := 79) (F := 68) rfl rfl rfl rfl g_1 ?_
  refine jw_aload_n (pc' := 80) rfl rfl ?_
  obtain ⟨g_2, w⟩ := w
  refine jw_getI (pc' := 83) (F := 68) rfl rfl rfl rfl g_2 ?_
  refine jw_isub (pc' := 84) rfl ?_
  exact jw_ireturn rfl rfl (rfl) w
def W_X14_order_24 (D : JD) (d : Nat) (Q : JO → JH → Prop) (K24 : Nat → Nat → Int32 → JH → Prop) (r0 : Nat) (r1 : Nat) (x2 : Int32) (h : JH) : Prop :=
  r0 ≠ 0 ∧ (((jfi h 68 r0) ≤ x2 → W_X14_order_75 D d Q r0 r1 h) ∧ (¬ (jfi h 68 r0) ≤ x2 → r1 ≠ 0 ∧ (((jfi h 68 r1) ≤ x2 → W_X14_order_75 D d Q r0 r1 h) ∧ (¬ (jfi h 68 r1) ≤ x2 → (jfr h 67 r0) ≠ 0 ∧ jin x2 (jln h (jfr h 67 r0)) ∧ ((jfr h 67 r1) ≠ 0 ∧ jin x2 (jln h (jfr h 67 r1)) ∧ (((jai h (jfr h 67 r0) (ixn x2)) = (jai h (jfr h 67 r1) (ixn x2)) → K24 r0 r1 (x2 + (1 : Int32)) h) ∧ (¬ (jai h (jfr h 67 r0) (ixn x2)) = (jai h (jfr h 67 r1) (ixn x2)) → jin x2 (jln h (jfr h 67 r0)) ∧ (jin x2 (jln h (jfr h 67 r1)) ∧ (Q (.inl (some (vI ((jai h (jfr h 67 r0) (ixn x2)) - (jai h (jfr h 67 r1) (ixn x2)))))) h)))))))))
theorem w_X14_order_24 {D : JD} {d : Nat} {Q : JO → JH → Prop} {K24 : Nat → Nat → Int32 → JH → Prop} {r0 : Nat} {r1 : Nat} {x2 : Int32} {h : JH} (hK24 : ∀ (r0 : Nat) (r1 : Nat) (x2 : Int32) (h : JH), K24 r0 r1 x2 h → JW D (d + 1) mX14_order 24 [some (vR 8 r0), some (vR 8 r1), some (vI x2)] [] h Q) (w : W_X14_order_24 D d Q K24 r0 r1 x2 h) : JW D (d + 1) mX14_order 24 [some (vR 8 r0), some (vR 8 r1), some (vI x2)] [] h Q := by
  unfold W_X14_order_24 at w
  refine jw_iload_n (pc' := 25) rfl rfl ?_
  refine jw_aload_n (pc' := 26) rfl rfl ?_
  obtain ⟨g_1, w⟩ := w
  refine jw_getI (pc' := 29) (F := 68) rfl rfl rfl rfl g_1 ?_
  refine jw_icmp_ge (tgt := 75) (pc' := 32) rfl rfl (fun c_2 => ?_) (fun c_2 => ?_)
  · replace w := w.1 c_2
    refine jw_gen (ls' := [some (vR 8 r0), some (vR 8 r1), none]) (st' := []) (And.intro (Or.inl rfl) (And.intro (Or.inl rfl) (trivial))) (trivial) ?_
    exact w_X14_order_75 w
  · replace w := w.2 c_2
    refine jw_iload_n (pc' := 33) rfl rfl ?_
    refine jw_aload_n (pc' := 34) rfl rfl ?_
    obtain ⟨g_3, w⟩ := w
    refine jw_getI (pc' := 37) (F := 68) rfl rfl rfl rfl g_3 ?_
    refine jw_icmp_ge (tgt := 75) (pc' := 40) rfl rfl (fun c_4 => ?_) (fun c_4 => ?_)
    · replace w := w.1 c_4
      refine jw_gen (ls' := [some (vR 8 r0), some (vR 8 r1), none]) (st' := []) (And.intro (Or.inl rfl) (And.intro (Or.inl rfl) (trivial))) (trivial) ?_
      exact w_X14_order_75 w
    · replace w := w.2 c_4
      refine jw_aload_n (pc' := 41) rfl rfl ?_
      refine jw_getR (pc' := 44) (F := 67) (t' := 144) rfl rfl rfl rfl rfl g_1 ?_
      refine jw_iload_n (pc' := 45) rfl rfl ?_
      obtain ⟨g_5, w⟩ := w
      obtain ⟨g_6, w⟩ := w
      refine jw_bald (pc' := 46) rfl rfl rfl rfl g_5 g_6.ix g_6.2 ?_
      refine jw_aload_n (pc' := 47) rfl rfl ?_
      refine jw_getR (pc' := 50) (F := 67) (t' := 144) rfl rfl rfl rfl rfl g_3 ?_
      refine jw_iload_n (pc' := 51) rfl rfl ?_
      obtain ⟨g_7, w⟩ := w
      obtain ⟨g_8, w⟩ := w
      refine jw_bald (pc' := 52) rfl rfl rfl rfl g_7 g_8.ix g_8.2 ?_
      refine jw_icmp_eq (tgt := 69) (pc' := 55) rfl rfl (fun c_9 => ?_) (fun c_9 => ?_)
      · replace w := w.1 c_9
        refine jw_iinc (pc' := 72) (y := x2 + (1 : Int32)) (ls' := [some (vR 8 r0), some (vR 8 r1), some (vI (x2 + (1 : Int32)))]) rfl (by decide) rfl rfl rfl ?_
        refine jw_goto (pc' := 24) rfl rfl ?_
        exact hK24 _ _ _ _ w
      · replace w := w.2 c_9
        refine jw_aload_n (pc' := 56) rfl rfl ?_
        refine jw_getR (pc' := 59) (F := 67) (t' := 144) rfl rfl rfl rfl rfl g_1 ?_
        refine jw_iload_n (pc' := 60) rfl rfl ?_
        obtain ⟨g_10, w⟩ := w
        refine jw_bald (pc' := 61) rfl rfl rfl rfl g_5 g_10.ix g_10.2 ?_
        refine jw_aload_n (pc' := 62) rfl rfl ?_
        refine jw_getR (pc' := 65) (F := 67) (t' := 144) rfl rfl rfl rfl rfl g_3 ?_
        refine jw_iload_n (pc' := 66) rfl rfl ?_
        obtain ⟨g_11, w⟩ := w
        refine jw_bald (pc' := 67) rfl rfl rfl rfl g_7 g_11.ix g_11.2 ?_
        refine jw_isub (pc' := 68) rfl ?_
        exact jw_ireturn rfl rfl (rfl) w
def L_X14_order_24 (D : JD) (d : Nat) (Q : JO → JH → Prop) : Nat → Nat → Nat → Int32 → JH → Prop
  | 0 => fun _ _ _ _ => False
  | n + 1 => fun r0 r1 x2 h => W_X14_order_24 D d Q (L_X14_order_24 D d Q n) r0 r1 x2 h
theorem l_X14_order_24 {D : JD} {d : Nat} {Q : JO → JH → Prop} : ∀ (n : Nat) (r0 : Nat) (r1 : Nat) (x2 : Int32) (h : JH), L_X14_order_24 D d Q n r0 r1 x2 h → JW D (d + 1) mX14_order 24 [some (vR 8 r0), some (vR 8 r1), some (vI x2)] [] h Q := by
  intro n
  induction n with
  | zero => intro _ _ _ _ w; exact w.elim
  | succ n ih => intro _ _ _ h w; exact w_X14_order_24 ih w
def W_X14_order_0 (D : JD) (d : Nat) (Q : JO → JH → Prop) (r0 : Nat) (r1 : Nat) (h : JH) : Prop :=
  r0 ≠ 0 ∧ (((jfr h 64 r0) = (jcs D 346) → ∃ n, L_X14_order_24 D d Q n r0 r1 (0 : Int32) h) ∧ (¬ (jfr h 64 r0) = (jcs D 346) → r1 ≠ 0 ∧ (cJ18_compare D d (jfl h 66 r0) (jfl h 66 r1) h (pI D h (fun v_6 h_4 => Q (.inl (some (vI v_6))) h_4) (jth Q)))))
theorem w_X14_order_0 {D : JD} {d : Nat} {Q : JO → JH → Prop} {r0 : Nat} {r1 : Nat} {h : JH} (w : W_X14_order_0 D d Q r0 r1 h) : JW D (d + 1) mX14_order 0 [some (vR 8 r0), some (vR 8 r1), none] [] h Q := by
  unfold W_X14_order_0 at w
  refine jw_aload_n (pc' := 1) rfl rfl ?_
  obtain ⟨g_1, w⟩ := w
  refine jw_getR (pc' := 4) (F := 64) (t' := 52) rfl rfl rfl rfl rfl g_1 ?_
  refine jw_getsR (pc' := 7) rfl rfl rfl rfl ?_
  refine jw_acmp_eq (tgt := 22) (pc' := 10) rfl rfl (fun c_2 => ?_) (fun c_2 => ?_)
  · replace w := w.1 c_2
    refine jw_iconst (pc' := 23) (x := (0 : Int32)) rfl rfl ?_
    refine jw_istore_n (pc' := 24) (ls' := [some (vR 8 r0), some (vR 8 r1), some (vI (0 : Int32))]) rfl (by decide) rfl ?_
    obtain ⟨n, w⟩ := w
    exact l_X14_order_24 n _ _ _ _ w
  · replace w := w.2 c_2
    refine jw_aload_n (pc' := 11) rfl rfl ?_
    refine jw_getL (pc' := 14) (F := 66) rfl rfl rfl rfl g_1 ?_
    refine jw_aload_n (pc' := 15) rfl rfl ?_
    obtain ⟨g_3, w⟩ := w
    refine jw_getL (pc' := 18) (F := 66) rfl rfl rfl rfl g_3 ?_
    refine jw_cI (st := []) (sa := [vL (jfl h 66 r0), vL (jfl h 66 r1)]) okJ18_compare rfl rfl rfl rfl rfl rfl (jstp_static (sa := [vL (jfl h 66 r0), vL (jfl h 66 r1)]) (st := []) rfl rfl sJ18_compare okJ18_compare rfl rfl) w (fun v_6 h_4 _ _ w => ?_)
    exact jw_ireturn rfl rfl (rfl) w
def T_X14_order (D : JD) (d : Nat) (Q : JO → JH → Prop) (r0 : Nat) (r1 : Nat) (h : JH) : Prop := W_X14_order_0 D d Q r0 r1 h
theorem t_X14_order {D : JD} {d : Nat} {Q : JO → JH → Prop} {r0 : Nat} {r1 : Nat} {h : JH} (w : T_X14_order D d Q r0 r1 h) : cX14_order D (d + 1) r0 r1 h Q := by
  unfold T_X14_order at w
  unfold cX14_order
  exact w_X14_order_0 w
def W_X14_number_2_0 (D : JD) (d : Nat) (Q : JO → JH → Prop) (r0 : Nat) (h : JH) : Prop :=
  r0 ≠ 0 ∧ (Q (.inl (some (vL (jfl h 66 r0)))) h)
theorem w_X14_number_2_0 {D : JD} {d : Nat} {Q : JO → JH → Prop} {r0 : Nat} {h : JH} (w : W_X14_number_2_0 D d Q r0 h) : JW D (d + 1) mX14_number_2 0 [some (vR 8 r0)] [] h Q := by
  unfold W_X14_number_2_0 at w
  refine jw_aload_n (pc' := 1) rfl rfl ?_
  obtain ⟨g_1, w⟩ := w
  refine jw_getL (pc' := 4) (F := 66) rfl rfl rfl rfl g_1 ?_
  exact jw_lreturn rfl rfl w
def T_X14_number_2 (D : JD) (d : Nat) (Q : JO → JH → Prop) (r0 : Nat) (h : JH) : Prop := W_X14_number_2_0 D d Q r0 h
theorem t_X14_number_2 {D : JD} {d : Nat} {Q : JO → JH → Prop} {r0 : Nat} {h : JH} (w : T_X14_number_2 D d Q r0 h) : cX14_number_2 D (d + 1) r0 h Q := by
  unfold T_X14_number_2 at w
  unfold cX14_number_2
  exact w_X14_number_2_0 w
def W_X14_none_0 (D : JD) (d : Nat) (Q : JO → JH → Prop) (r0 : Nat) (h : JH) : Prop :=
  r0 ≠ 0 ∧ ∀ h_2 : JH, h_2 = wfi h 65 r0 (1 : Int32) → (Q (.inl (some (vR 8 r0))) h_2)
theorem w_X14_none_0 {D : JD} {d : Nat} {Q : JO → JH → Prop} {r0 : Nat} {h : JH} (w : W_X14_none_0 D d Q r0 h) : JW D (d + 1) mX14_none 0 [some (vR 8 r0)] [] h Q := by
  unfold W_X14_none_0 at w
  refine jw_aload_n (pc' := 1) rfl rfl ?_
  refine jw_iconst (pc' := 2) (x := (1 : Int32)) rfl rfl ?_
  obtain ⟨g_1, w⟩ := w
  refine jw_putI' (pc' := 5) (F := 65) rfl rfl rfl (Or.inr rfl) (Or.inl rfl) rfl (rfl) (rfl) rfl g_1 (fun h_2 e_3 => ?_)
  replace w := w h_2 e_3
  refine jw_aload_n (pc' := 6) rfl rfl ?_
  exact jw_areturn rfl rfl rfl rfl rfl w
def T_X14_none (D : JD) (d : Nat) (Q : JO → JH → Prop) (r0 : Nat) (h : JH) : Prop := W_X14_none_0 D d Q r0 h
theorem t_X14_none {D : JD} {d : Nat} {Q : JO → JH → Prop} {r0 : Nat} {h : JH} (w : T_X14_none D d Q r0 h) : cX14_none D (d + 1) r0 h Q := by
  unfold T_X14_none at w
  unfold cX14_none
  exact w_X14_none_0 w
def W_X14_isTrue_21 (D : JD) (d : Nat) (Q : JO → JH → Prop) (s0 : Int32) (h : JH) : Prop :=
  jbo s0 ∧ (Q (.inl (some (vI s0))) h)
theorem w_X14_isTrue_21 {D : JD} {d : Nat} {Q : JO → JH → Prop} {s0 : Int32} {h : JH} (w : W_X14_isTrue_21 D d Q s0 h) : JW D (d + 1) mX14_isTrue 21 [none] [vI s0] h Q := by
  unfold W_X14_isTrue_21 at w
  obtain ⟨g_1, w⟩ := w
  exact jw_ireturn rfl rfl (g_1.nr) w
def W_X14_isTrue_20 (D : JD) (d : Nat) (Q : JO → JH → Prop) (h : JH) : Prop :=
  W_X14_isTrue_21 D d Q (0 : Int32) h
theorem w_X14_isTrue_20 {D : JD} {d : Nat} {Q : JO → JH → Prop} {h : JH} (w : W_X14_isTrue_20 D d Q h) : JW D (d + 1) mX14_isTrue 20 [none] [] h Q := by
  unfold W_X14_isTrue_20 at w
  refine jw_iconst (pc' := 21) (x := (0 : Int32)) rfl rfl ?_
  exact w_X14_isTrue_21 w
def W_X14_isTrue_0 (D : JD) (d : Nat) (Q : JO → JH → Prop) (r0 : Nat) (h : JH) : Prop :=
  r0 ≠ 0 ∧ ((¬ (jfi h 65 r0) = 0 → W_X14_isTrue_20 D d Q h) ∧ ((jfi h 65 r0) = 0 → (¬ (lg_cmp (jfl h 66 r0) (1 : Int64)) = 0 → W_X14_isTrue_20 D d Q h) ∧ ((lg_cmp (jfl h 66 r0) (1 : Int64)) = 0 → W_X14_isTrue_21 D d Q (1 : Int32) h)))
theorem w_X14_isTrue_0 {D : JD} {d : Nat} {Q : JO → JH → Prop} {r0 : Nat} {h : JH} (w : W_X14_isTrue_0 D d Q r0 h) : JW D (d + 1) mX14_isTrue 0 [some (vR 8 r0)] [] h Q := by
  unfold W_X14_isTrue_0 at w
  refine jw_aload_n (pc' := 1) rfl rfl ?_
  obtain ⟨g_1, w⟩ := w
  refine jw_getI (pc' := 4) (F := 65) rfl rfl rfl rfl g_1 ?_
  refine jw_if_ne (tgt := 20) (pc' := 7) rfl rfl (fun c_2 => ?_) (fun c_2 => ?_)
  · replace w := w.1 c_2
    refine jw_gen (ls' := [none]) (st' := []) (trivial) (trivial) ?_
    exact w_X14_isTrue_20 w
  · replace w := w.2 c_2
    refine jw_aload_n (pc' := 8) rfl rfl ?_
    refine jw_getL (pc' := 11) (F := 66) rfl rfl rfl rfl g_1 ?_
    refine jw_lconst (pc' := 12) (x := (1 : Int64)) rfl rfl ?_
    refine jw_lcmp (pc' := 13) rfl ?_
    refine jw_if_ne (tgt := 20) (pc' := 16) rfl rfl (fun c_3 => ?_) (fun c_3 => ?_)
    · replace w := w.1 c_3
      refine jw_gen (ls' := [none]) (st' := []) (trivial) (trivial) ?_
      exact w_X14_isTrue_20 w
    · replace w := w.2 c_3
      refine jw_iconst (pc' := 17) (x := (1 : Int32)) rfl rfl ?_
      refine jw_goto (pc' := 21) rfl rfl ?_
      refine jw_gen (ls' := [none]) (st' := [vI (1 : Int32)]) (trivial) (And.intro (Or.inl rfl) (trivial)) ?_
      exact w_X14_isTrue_21 w
def T_X14_isTrue (D : JD) (d : Nat) (Q : JO → JH → Prop) (r0 : Nat) (h : JH) : Prop := W_X14_isTrue_0 D d Q r0 h
theorem t_X14_isTrue {D : JD} {d : Nat} {Q : JO → JH → Prop} {r0 : Nat} {h : JH} (w : T_X14_isTrue D d Q r0 h) : cX14_isTrue D (d + 1) r0 h Q := by
  unfold T_X14_isTrue at w
  unfold cX14_isTrue
  exact w_X14_isTrue_0 w
def W_X14_size_0 (D : JD) (d : Nat) (Q : JO → JH → Prop) (r0 : Nat) (h : JH) : Prop :=
  r0 ≠ 0 ∧ (Q (.inl (some (vI (jfi h 68 r0)))) h)
theorem w_X14_size_0 {D : JD} {d : Nat} {Q : JO → JH → Prop} {r0 : Nat} {h : JH} (w : W_X14_size_0 D d Q r0 h) : JW D (d + 1) mX14_size 0 [some (vR 8 r0)] [] h Q := by
  unfold W_X14_size_0 at w
  refine jw_aload_n (pc' := 1) rfl rfl ?_
  obtain ⟨g_1, w⟩ := w
  refine jw_getI (pc' := 4) (F := 68) rfl rfl rfl rfl g_1 ?_
  exact jw_ireturn rfl rfl (rfl) w
def T_X14_size (D : JD) (d : Nat) (Q : JO → JH → Prop) (r0 : Nat) (h : JH) : Prop := W_X14_size_0 D d Q r0 h
theorem t_X14_size {D : JD} {d : Nat} {Q : JO → JH → Prop} {r0 : Nat} {h : JH} (w : T_X14_size D d Q r0 h) : cX14_size D (d + 1) r0 h Q := by
  unfold T_X14_size at w
  unfold cX14_size
  exact w_X14_size_0 w
def W_X14_join_52 (D : JD) (d : Nat) (Q : JO → JH → Prop) (K52 : Nat → Nat → Int32 → Int32 → Int32 → JH → Prop) (r0 : Nat) (r1 : Nat) (x3 : Int32) (x4 : Int32) (x5 : Int32) (h : JH) : Prop :=
  (x3 ≤ x5 → r0 ≠ 0 ∧ ∀ h_3 : JH, h_3 = wfi h 65 r0 (0 : Int32) → (∀ h_5 : JH, h_5 = wfr h_3 64 r0 (jcs D 346) → (∀ h_7 : JH, h_7 = wfi h_5 68 r0 (x3 + x4) → (Q (.inl (some (vR 8 r0))) h_7)))) ∧ (¬ x3 ≤ x5 → r0 ≠ 0 ∧ (r1 ≠ 0 ∧ ((jfr h 67 r1) ≠ 0 ∧ jin x5 (jln h (jfr h 67 r1)) ∧ ((jfr h 67 r0) ≠ 0 ∧ jin x5 (jln h (jfr h 67 r0)) ∧ ∀ h_15 : JH, h_15 = wai h (jfr h 67 r0) (ixn x5) ((Int32.toInt8 (jai h (jfr h 67 r1) (ixn x5))).toInt32) → (K52 r0 r1 x3 x4 (x5 + (1 : Int32)) h_15)))))
theorem w_X14_join_52 {D : JD} {d : Nat} {Q : JO → JH → Prop} {K52 : Nat → Nat → Int32 → Int32 → Int32 → JH → Prop} {r0 : Nat} {r1 : Nat} {x3 : Int32} {x4 : Int32} {x5 : Int32} {h : JH} (hK52 : ∀ (r0 : Nat) (r1 : Nat) (x3 : Int32) (x4 : Int32) (x5 : Int32) (h : JH), K52 r0 r1 x3 x4 x5 h → JW D (d + 1) mX14_join 52 [some (vR 8 r0), some (vR 8 r1), none, some (vI x3), some (vI x4), some (vI x5)] [] h Q) (w : W_X14_join_52 D d Q K52 r0 r1 x3 x4 x5 h) : JW D (d + 1) mX14_join 52 [some (vR 8 r0), some (vR 8 r1), none, some (vI x3), some (vI x4), some (vI x5)] [] h Q := by
  unfold W_X14_join_52 at w
  refine jw_iload (pc' := 54) rfl rfl ?_
  refine jw_iload_n (pc' := 55) rfl rfl ?_
  refine jw_icmp_ge (tgt := 78) (pc' := 58) rfl rfl (fun c_1 => ?_) (fun c_1 => ?_)
  · replace w := w.1 c_1
    refine jw_aload_n (pc' := 79) rfl rfl ?_
    refine jw_iconst (pc' := 80) (x := (0 : Int32)) rfl rfl ?_
    obtain ⟨g_2, w⟩ := w
    refine jw_putI' (pc' := 83) (F := 65) rfl rfl rfl (Or.inr rfl) (Or.inl rfl) rfl (rfl) (rfl) rfl g_2 (fun h_3 e_4 => ?_)
    replace w := w h_3 e_4
    refine jw_aload_n (pc' := 84) rfl rfl ?_
    refine jw_getsR (pc' := 87) rfl rfl rfl rfl ?_
    refine jw_putR' (pc' := 90) (F := 64) rfl rfl rfl (Or.inr rfl) (Or.inl rfl) rfl rfl rfl g_2 (fun h_5 e_6 => ?_)
    replace w := w h_5 e_6
    refine jw_aload_n (pc' := 91) rfl rfl ?_
    refine jw_iload_n (pc' := 92) rfl rfl ?_
    refine jw_iload (pc' := 94) rfl rfl ?_
    refine jw_iadd (pc' := 95) rfl ?_
    refine jw_putI' (pc' := 98) (F := 68) rfl rfl rfl (Or.inr rfl) (Or.inl rfl) rfl (rfl) (rfl) rfl g_2 (fun h_7 e_8 => ?_)
    replace w := w h_7 e_8
    refine jw_aload_n (pc' := 99) rfl rfl ?_
    exact jw_areturn rfl rfl rfl rfl rfl w
  · replace w := w.2 c_1
    refine jw_aload_n (pc' := 59) rfl rfl ?_
    obtain ⟨g_9, w⟩ := w
    refine jw_getR (pc' := 62) (F := 67) (t' := 144) rfl rfl rfl rfl rfl g_9 ?_
    refine jw_iload (pc' := 64) rfl rfl ?_
    refine jw_aload_n (pc' := 65) rfl rfl ?_
    obtain ⟨g_10, w⟩ := w
    refine jw_getR (pc' := 68) (F := 67) (t' := 144) rfl rfl rfl rfl rfl g_10 ?_
    refine jw_iload (pc' := 70) rfl rfl ?_
    obtain ⟨g_11, w⟩ := w
    obtain ⟨g_12, w⟩ := w
    refine jw_bald (pc' := 71) rfl rfl rfl rfl g_11 g_12.ix g_12.2 ?_
    obtain ⟨g_13, w⟩ := w
    obtain ⟨g_14, w⟩ := w
    refine jw_bast' (pc' := 72) rfl rfl rfl rfl rfl g_13 g_14 (fun h_15 e_16 => ?_)
    replace w := w h_15 e_16
    refine jw_iinc (pc' := 75) (y := x5 + (1 : Int32)) (ls' := [some (vR 8 r0), some (vR 8 r1), none, some (vI x3), some (vI x4), some (vI (x5 + (1 : Int32)))]) rfl (by decide) rfl rfl rfl ?_
    refine jw_goto (pc' := 52) rfl rfl ?_
    exact hK52 _ _ _ _ _ _ w
def L_X14_join_52 (D : JD) (d : Nat) (Q : JO → JH → Prop) : Nat → Nat → Nat → Int32 → Int32 → Int32 → JH → Prop
  | 0 => fun _ _ _ _ _ _ => False
  | n + 1 => fun r0 r1 x3 x4 x5 h => W_X14_join_52 D d Q (L_X14_join_52 D d Q n) r0 r1 x3 x4 x5 h
theorem l_X14_join_52 {D : JD} {d : Nat} {Q : JO → JH → Prop} : ∀ (n : Nat) (r0 : Nat) (r1 : Nat) (x3 : Int32) (x4 : Int32) (x5 : Int32) (h : JH), L_X14_join_52 D d Q n r0 r1 x3 x4 x5 h → JW D (d + 1) mX14_join 52 [some (vR 8 r0), some (vR 8 r1), none, some (vI x3), some (vI x4), some (vI x5)] [] h Q := by
  intro n
  induction n with
  | zero => intro _ _ _ _ _ _ w; exact w.elim
  | succ n ih => intro _ _ _ _ _ h w; exact w_X14_join_52 ih w
def W_X14_join_22 (D : JD) (d : Nat) (Q : JO → JH → Prop) (K22 : Nat → Nat → Nat → Int32 → Int32 → Int32 → JH → Prop) (r0 : Nat) (r1 : Nat) (r2 : Nat) (x3 : Int32) (x4 : Int32) (x5 : Int32) (h : JH) : Prop :=
  (x5 < 0 → ∃ n, L_X14_join_52 D d Q n r0 r1 x3 x4 (0 : Int32) h) ∧ (¬ x5 < 0 → r0 ≠ 0 ∧ (r2 ≠ 0 ∧ ((jfr h 67 r2) ≠ 0 ∧ jin x5 (jln h (jfr h 67 r2)) ∧ ((jfr h 67 r0) ≠ 0 ∧ jin (x3 + x5) (jln h (jfr h 67 r0)) ∧ ∀ h_8 : JH, h_8 = wai h (jfr h 67 r0) (ixn (x3 + x5)) ((Int32.toInt8 (jai h (jfr h 67 r2) (ixn x5))).toInt32) → (K22 r0 r1 r2 x3 x4 (x5 + (-1 : Int32)) h_8)))))
theorem w_X14_join_22 {D : JD} {d : Nat} {Q : JO → JH → Prop} {K22 : Nat → Nat → Nat → Int32 → Int32 → Int32 → JH → Prop} {r0 : Nat} {r1 : Nat} {r2 : Nat} {x3 : Int32} {x4 : Int32} {x5 : Int32} {h : JH} (hK22 : ∀ (r0 : Nat) (r1 : Nat) (r2 : Nat) (x3 : Int32) (x4 : Int32) (x5 : Int32) (h : JH), K22 r0 r1 r2 x3 x4 x5 h → JW D (d + 1) mX14_join 22 [some (vR 8 r0), some (vR 8 r1), some (vR 8 r2), some (vI x3), some (vI x4), some (vI x5)] [] h Q) (w : W_X14_join_22 D d Q K22 r0 r1 r2 x3 x4 x5 h) : JW D (d + 1) mX14_join 22 [some (vR 8 r0), some (vR 8 r1), some (vR 8 r2), some (vI x3), some (vI x4), some (vI x5)] [] h Q := by
  unfold W_X14_join_22 at w
  refine jw_iload (pc' := 24) rfl rfl ?_
  refine jw_if_lt (tgt := 49) (pc' := 27) rfl rfl (fun c_1 => ?_) (fun c_1 => ?_)
  · replace w := w.1 c_1
    refine jw_iconst (pc' := 50) (x := (0 : Int32)) rfl rfl ?_
    refine jw_istore (pc' := 52) (ls' := [some (vR 8 r0), some (vR 8 r1), some (vR 8 r2), some (vI x3), some (vI x4), some (vI (0 : Int32))]) rfl (by decide) rfl ?_
    refine jw_gen (ls' := [some (vR 8 r0), some (vR 8 r1), none, some (vI x3), some (vI x4), some (vI (0 : Int32))]) (st' := []) (And.intro (Or.inl rfl) (And.intro (Or.inl rfl) (And.intro (Or.inl rfl) (And.intro (Or.inl rfl) (And.intro (Or.inl rfl) (trivial)))))) (trivial) ?_
    obtain ⟨n, w⟩ := w
    exact l_X14_join_52 n _ _ _ _ _ _ w
  · replace w := w.2 c_1
    refine jw_aload_n (pc' := 28) rfl rfl ?_
    obtain ⟨g_2, w⟩ := w
    refine jw_getR (pc' := 31) (F := 67) (t' := 144) rfl rfl rfl rfl rfl g_2 ?_
    refine jw_iload_n (pc' := 32) rfl rfl ?_
    refine jw_iload (pc' := 34) rfl rfl ?_
    refine jw_iadd (pc' := 35) rfl ?_
    refine jw_aload_n (pc' := 36) rfl rfl ?_
    obtain ⟨g_3, w⟩ := w
    refine jw_getR (pc' := 39) (F := 67) (t' := 144) rfl rfl rfl rfl rfl g_3 ?_
    refine jw_iload (pc' := 41) rfl rfl ?_
    obtain ⟨g_4, w⟩ := w
    obtain ⟨g_5, w⟩ := w
    refine jw_bald (pc' := 42) rfl rfl rfl rfl g_4 g_5.ix g_5.2 ?_
    obtain ⟨g_6, w⟩ := w
    obtain ⟨g_7, w⟩ := w
    refine jw_bast' (pc' := 43) rfl rfl rfl rfl rfl g_6 g_7 (fun h_8 e_9 => ?_)
    replace w := w h_8 e_9
    refine jw_iinc (pc' := 46) (y := x5 + (-1 : Int32)) (ls' := [some (vR 8 r0), some (vR 8 r1), some (vR 8 r2), some (vI x3), some (vI x4), some (vI (x5 + (-1 : Int32)))]) rfl (by decide) rfl rfl rfl ?_
    refine jw_goto (pc' := 22) rfl rfl ?_
    exact hK22 _ _ _ _ _ _ _ w
def L_X14_join_22 (D : JD) (d : Nat) (Q : JO → JH → Prop) : Nat → Nat → Nat → Nat → Int32 → Int32 → Int32 → JH → Prop
  | 0 => fun _ _ _ _ _ _ _ => False
  | n + 1 => fun r0 r1 r2 x3 x4 x5 h => W_X14_join_22 D d Q (L_X14_join_22 D d Q n) r0 r1 r2 x3 x4 x5 h
theorem l_X14_join_22 {D : JD} {d : Nat} {Q : JO → JH → Prop} : ∀ (n : Nat) (r0 : Nat) (r1 : Nat) (r2 : Nat) (x3 : Int32) (x4 : Int32) (x5 : Int32) (h : JH), L_X14_join_22 D d Q n r0 r1 r2 x3 x4 x5 h → JW D (d + 1) mX14_join 22 [some (vR 8 r0), some (vR 8 r1), some (vR 8 r2), some (vI x3), some (vI x4), some (vI x5)] [] h Q := by
  intro n
  induction n with
  | zero => intro _ _ _ _ _ _ _ w; exact w.elim
  | succ n ih => intro _ _ _ _ _ _ h w; exact w_X14_join_22 ih w
def W_X14_join_0 (D : JD) (d : Nat) (Q : JO → JH → Prop) (r0 : Nat) (r1 : Nat) (r2 : Nat) (h : JH) : Prop :=
  r1 ≠ 0 ∧ (r2 ≠ 0 ∧ (r0 ≠ 0 ∧ (cX14_room D d r0 h (pR D h 65 (fun v_6 h_4 => ∃ n, L_X14_join_22 D d Q n r0 r1 r2 (jfi h 68 r1) (jfi h 68 r2) ((jfi h 68 r2) - (1 : Int32)) h_4) (jth Q)))))
theorem w_X14_join_0 {D : JD} {d : Nat} {Q : JO → JH → Prop} {r0 : Nat} {r1 : Nat} {r2 : Nat} {h : JH} (w : W_X14_join_0 D d Q r0 r1 r2 h) : JW D (d + 1) mX14_join 0 [some (vR 8 r0), some (vR 8 r1), some (vR 8 r2), none, none, none] [] h Q := by
  unfold W_X14_join_0 at w
  refine jw_aload_n (pc' := 1) rfl rfl ?_
  obtain ⟨g_1, w⟩ := w
  refine jw_getI (pc' := 4) (F := 68) rfl rfl rfl rfl g_1 ?_
  refine jw_istore_n (pc' := 5) (ls' := [some (vR 8 r0), some (vR 8 r1), some (vR 8 r2), some (vI (jfi h 68 r1)), none, none]) rfl (by decide) rfl ?_
  refine jw_aload_n (pc' := 6) rfl rfl ?_
  obtain ⟨g_2, w⟩ := w
  refine jw_getI (pc' := 9) (F := 68) rfl rfl rfl rfl g_2 ?_
  refine jw_istore (pc' := 11) (ls' := [some (vR 8 r0), some (vR 8 r1), some (vR 8 r2), some (vI (jfi h 68 r1)), some (vI (jfi h 68 r2)), none]) rfl (by decide) rfl ?_
  refine jw_aload_n (pc' := 12) rfl rfl ?_
  obtain ⟨g_3, w⟩ := w
  refine jw_cR (st := []) (sa := [vR 8 r0]) okX14_room rfl rfl rfl rfl rfl rfl (jstp_virtual (sa := []) (st := []) (k := 0) rfl rfl sX14_room okX14_room g_3 (one8.k g_3) rfl rfl) w (fun v_6 h_4 _ _ _ w => ?_)
  refine jw_pop (pc' := 16) rfl rfl ?_
  refine jw_iload (pc' := 18) rfl rfl ?_
  refine jw_iconst (pc' := 19) (x := (1 : Int32)) rfl rfl ?_
  refine jw_isub (pc' := 20) rfl ?_
  refine jw_istore (pc' := 22) (ls' := [some (vR 8 r0), some (vR 8 r1), some (vR 8 r2), some (vI (jfi h 68 r1)), some (vI (jfi h 68 r2)), some (vI ((jfi h 68 r2) - (1 : Int32)))]) rfl (by decide) rfl ?_
  obtain ⟨n, w⟩ := w
  exact l_X14_join_22 n _ _ _ _ _ _ _ w
def T_X14_join (D : JD) (d : Nat) (Q : JO → JH → Prop) (r0 : Nat) (r1 : Nat) (r2 : Nat) (h : JH) : Prop := W_X14_join_0 D d Q r0 r1 r2 h
theorem t_X14_join {D : JD} {d : Nat} {Q : JO → JH → Prop} {r0 : Nat} {r1 : Nat} {r2 : Nat} {h : JH} (w : T_X14_join D d Q r0 r1 r2 h) : cX14_join D (d + 1) r0 r1 r2 h Q := by
  unfold T_X14_join at w
  unfold cX14_join
  exact w_X14_join_0 w
def W_X14_byteAt_0 (D : JD) (d : Nat) (Q : JO → JH → Prop) (r0 : Nat) (x1 : Int32) (h : JH) : Prop :=
  r0 ≠ 0 ∧ ((jfr h 67 r0) ≠ 0 ∧ jin x1 (jln h (jfr h 67 r0)) ∧ (narrow .byte (.int (jai h (jfr h 67 r0) (ixn x1))) = .int (jai h (jfr h 67 r0) (ixn x1)) ∧ (Q (.inl (some (vI (jai h (jfr h 67 r0) (ixn x1))))) h)))
theorem w_X14_byteAt_0 {D : JD} {d : Nat} {Q : JO → JH → Prop} {r0 : Nat} {x1 : Int32} {h : JH} (w : W_X14_byteAt_0 D d Q r0 x1 h) : JW D (d + 1) mX14_byteAt 0 [some (vR 8 r0), some (vI x1)] [] h Q := by
  unfold W_X14_byteAt_0 at w
  refine jw_aload_n (pc' := 1) rfl rfl ?_
  obtain ⟨g_1, w⟩ := w
  refine jw_getR (pc' := 4) (F := 67) (t' := 144) rfl rfl rfl rfl rfl g_1 ?_
  refine jw_iload_n (pc' := 5) rfl rfl ?_
  obtain ⟨g_2, w⟩ := w
  obtain ⟨g_3, w⟩ := w
  refine jw_bald (pc' := 6) rfl rfl rfl rfl g_2 g_3.ix g_3.2 ?_
  obtain ⟨g_4, w⟩ := w
  exact jw_ireturn rfl rfl (g_4) w
def T_X14_byteAt (D : JD) (d : Nat) (Q : JO → JH → Prop) (r0 : Nat) (x1 : Int32) (h : JH) : Prop := W_X14_byteAt_0 D d Q r0 x1 h
theorem t_X14_byteAt {D : JD} {d : Nat} {Q : JO → JH → Prop} {r0 : Nat} {x1 : Int32} {h : JH} (w : T_X14_byteAt D d Q r0 x1 h) : cX14_byteAt D (d + 1) r0 x1 h Q := by
  unfold T_X14_byteAt at w
  unfold cX14_byteAt
  exact w_X14_byteAt_0 w
def W_X14_bytes_0 (D : JD) (d : Nat) (Q : JO → JH → Prop) (r0 : Nat) (h : JH) : Prop :=
  r0 ≠ 0 ∧ (Q (.inl (some (vR 65 (jfr h 67 r0)))) h)
theorem w_X14_bytes_0 {D : JD} {d : Nat} {Q : JO → JH → Prop} {r0 : Nat} {h : JH} (w : W_X14_bytes_0 D d Q r0 h) : JW D (d + 1) mX14_bytes 0 [some (vR 8 r0)] [] h Q := by
  unfold W_X14_bytes_0 at w
  refine jw_aload_n (pc' := 1) rfl rfl ?_
  obtain ⟨g_1, w⟩ := w
  refine jw_getR (pc' := 4) (F := 67) (t' := 144) rfl rfl rfl rfl rfl g_1 ?_
  exact jw_areturn rfl rfl rfl rfl rfl w
def T_X14_bytes (D : JD) (d : Nat) (Q : JO → JH → Prop) (r0 : Nat) (h : JH) : Prop := W_X14_bytes_0 D d Q r0 h
theorem t_X14_bytes {D : JD} {d : Nat} {Q : JO → JH → Prop} {r0 : Nat} {h : JH} (w : T_X14_bytes D d Q r0 h) : cX14_bytes D (d + 1) r0 h Q := by
  unfold T_X14_bytes at w
  unfold cX14_bytes
  exact w_X14_bytes_0 w
def W_X15_fits_24 (D : JD) (d : Nat) (Q : JO → JH → Prop) (s0 : Int32) (h : JH) : Prop :=
  jbo s0 ∧ (Q (.inl (some (vI s0))) h)
theorem w_X15_fits_24 {D : JD} {d : Nat} {Q : JO → JH → Prop} {s0 : Int32} {h : JH} (w : W_X15_fits_24 D d Q s0 h) : JW D (d + 1) mX15_fits 24 [none, none] [vI s0] h Q := by
  unfold W_X15_fits_24 at w
  obtain ⟨g_1, w⟩ := w
  exact jw_ireturn rfl rfl (g_1.nr) w
def W_X15_fits_19 (D : JD) (d : Nat) (Q : JO → JH → Prop) (h : JH) : Prop :=
  W_X15_fits_24 D d Q (1 : Int32) h
theorem w_X15_fits_19 {D : JD} {d : Nat} {Q : JO → JH → Prop} {h : JH} (w : W_X15_fits_19 D d Q h) : JW D (d + 1) mX15_fits 19 [none, none] [] h Q := by
  unfold W_X15_fits_19 at w
  refine jw_iconst (pc' := 20) (x := (1 : Int32)) rfl rfl ?_
  refine jw_goto (pc' := 24) rfl rfl ?_
  exact w_X15_fits_24 w
def W_X15_fits_0 (D : JD) (d : Nat) (Q : JO → JH → Prop) (r0 : Nat) (r1 : Nat) (h : JH) : Prop :=
  (r0 = r1 → W_X15_fits_19 D d Q h) ∧ (¬ r0 = r1 → (r0 = (jcs D 345) → W_X15_fits_19 D d Q h) ∧ (¬ r0 = (jcs D 345) → (¬ r1 = (jcs D 345) → W_X15_fits_24 D d Q (0 : Int32) h) ∧ (r1 = (jcs D 345) → W_X15_fits_19 D d Q h)))
theorem w_X15_fits_0 {D : JD} {d : Nat} {Q : JO → JH → Prop} {r0 : Nat} {r1 : Nat} {h : JH} (w : W_X15_fits_0 D d Q r0 r1 h) : JW D (d + 1) mX15_fits 0 [some (vR 52 r0), some (vR 52 r1)] [] h Q := by
  unfold W_X15_fits_0 at w
  refine jw_aload_n (pc' := 1) rfl rfl ?_
  refine jw_aload_n (pc' := 2) rfl rfl ?_
  refine jw_acmp_eq (tgt := 19) (pc' := 5) rfl rfl (fun c_1 => ?_) (fun c_1 => ?_)
  · replace w := w.1 c_1
    refine jw_gen (ls' := [none, none]) (st' := []) (trivial) (trivial) ?_
    exact w_X15_fits_19 w
  · replace w := w.2 c_1
    refine jw_aload_n (pc' := 6) rfl rfl ?_
    refine jw_getsR (pc' := 9) rfl rfl rfl rfl ?_
    refine jw_acmp_eq (tgt := 19) (pc' := 12) rfl rfl (fun c_2 => ?_) (fun c_2 => ?_)
    · replace w := w.1 c_2
      refine jw_gen (ls' := [none, none]) (st' := []) (trivial) (trivial) ?_
      exact w_X15_fits_19 w
    · replace w := w.2 c_2
      refine jw_aload_n (pc' := 13) rfl rfl ?_
      refine jw_getsR (pc' := 16) rfl rfl rfl rfl ?_
      refine jw_acmp_ne (tgt := 23) (pc' := 19) rfl rfl (fun c_3 => ?_) (fun c_3 => ?_)
      · replace w := w.1 c_3
        refine jw_iconst (pc' := 24) (x := (0 : Int32)) rfl rfl ?_
        refine jw_gen (ls' := [none, none]) (st' := [vI (0 : Int32)]) (trivial) (And.intro (Or.inl rfl) (trivial)) ?_
        exact w_X15_fits_24 w
      · replace w := w.2 c_3
        refine jw_gen (ls' := [none, none]) (st' := []) (trivial) (trivial) ?_
        exact w_X15_fits_19 w
def T_X15_fits (D : JD) (d : Nat) (Q : JO → JH → Prop) (r0 : Nat) (r1 : Nat) (h : JH) : Prop := W_X15_fits_0 D d Q r0 r1 h
theorem t_X15_fits {D : JD} {d : Nat} {Q : JO → JH → Prop} {r0 : Nat} {r1 : Nat} {h : JH} (w : T_X15_fits D d Q r0 r1 h) : cX15_fits D (d + 1) r0 r1 h Q := by
  unfold T_X15_fits at w
  unfold cX15_fits
  exact w_X15_fits_0 w
def W_X15_number_0 (D : JD) (d : Nat) (Q : JO → JH → Prop) (r0 : Nat) (h : JH) : Prop :=
  r0 ≠ 0 ∧ (Q (.inl (some (vI (jfi h 328 r0)))) h)
theorem w_X15_number_0 {D : JD} {d : Nat} {Q : JO → JH → Prop} {r0 : Nat} {h : JH} (w : W_X15_number_0 D d Q r0 h) : JW D (d + 1) mX15_number 0 [some (vR 52 r0)] [] h Q := by
  unfold W_X15_number_0 at w
  refine jw_aload_n (pc' := 1) rfl rfl ?_
  obtain ⟨g_1, w⟩ := w
  refine jw_getI (pc' := 4) (F := 328) rfl rfl rfl rfl g_1 ?_
  exact jw_ireturn rfl rfl (rfl) w
def T_X15_number (D : JD) (d : Nat) (Q : JO → JH → Prop) (r0 : Nat) (h : JH) : Prop := W_X15_number_0 D d Q r0 h
theorem t_X15_number {D : JD} {d : Nat} {Q : JO → JH → Prop} {r0 : Nat} {h : JH} (w : T_X15_number D d Q r0 h) : cX15_number D (d + 1) r0 h Q := by
  unfold T_X15_number at w
  unfold cX15_number
  exact w_X15_number_0 w
def W_X15_size_0 (D : JD) (d : Nat) (Q : JO → JH → Prop) (r0 : Nat) (h : JH) : Prop :=
  r0 ≠ 0 ∧ (Q (.inl (some (vI (jfi h 329 r0)))) h)
theorem w_X15_size_0 {D : JD} {d : Nat} {Q : JO → JH → Prop} {r0 : Nat} {h : JH} (w : W_X15_size_0 D d Q r0 h) : JW D (d + 1) mX15_size 0 [some (vR 52 r0)] [] h Q := by
  unfold W_X15_size_0 at w
  refine jw_aload_n (pc' := 1) rfl rfl ?_
  obtain ⟨g_1, w⟩ := w
  refine jw_getI (pc' := 4) (F := 329) rfl rfl rfl rfl g_1 ?_
  exact jw_ireturn rfl rfl (rfl) w
def T_X15_size (D : JD) (d : Nat) (Q : JO → JH → Prop) (r0 : Nat) (h : JH) : Prop := W_X15_size_0 D d Q r0 h
theorem t_X15_size {D : JD} {d : Nat} {Q : JO → JH → Prop} {r0 : Nat} {h : JH} (w : T_X15_size D d Q r0 h) : cX15_size D (d + 1) r0 h Q := by
  unfold T_X15_size at w
  unfold cX15_size
  exact w_X15_size_0 w
def W_X16_init_0 (D : JD) (d : Nat) (Q : JO → JH → Prop) (r0 : Nat) (r1 : Nat) (x2 : Int32) (h : JH) : Prop :=
  r0 ≠ 0 ∧ jkd h r0 = 9 ∧ jfi h 330 r0 = 0 ∧ 6 ≤ d + 1 ∧ ∀ h_5 : JH, h_5 = wfi h 330 r0 1 → (jfi h_5 330 r0 ≠ 0 ∧ ∀ h_8 : JH, h_8 = wfr h_5 69 r0 r1 → (jfi h_8 330 r0 ≠ 0 ∧ ∀ h_11 : JH, h_11 = wfi h_8 70 r0 x2 → (Q (.inl none) h_11)))
theorem w_X16_init_0 {D : JD} {d : Nat} {Q : JO → JH → Prop} {r0 : Nat} {r1 : Nat} {x2 : Int32} {h : JH} (w : W_X16_init_0 D d Q r0 r1 x2 h) : JW D (d + 1) mX16_init 0 [some (vR 9 r0), some (vR 64 r1), some (vI x2)] [] h Q := by
  unfold W_X16_init_0 at w
  refine jw_aload_n (pc' := 1) rfl rfl ?_
  obtain ⟨g_1, w⟩ := w
  obtain ⟨g_2, w⟩ := w
  obtain ⟨g_3, w⟩ := w
  obtain ⟨g_4, w⟩ := w
  refine jw_exc9' (pc' := 4) rfl g_2 g_3 g_4 rfl g_1 (lw_g (jtb_mem (c := 3) (i := 65) rfl) rfl) (fun h_5 e_6 => ?_)
  replace w := w h_5 e_6
  refine jw_aload_n (pc' := 5) rfl rfl ?_
  refine jw_aload_n (pc' := 6) rfl rfl ?_
  obtain ⟨g_7, w⟩ := w
  refine jw_putR' (pc' := 9) (F := 69) rfl rfl rfl (Or.inr rfl) (Or.inr ⟨rfl, rfl⟩) rfl rfl rfl g_1 (fun h_8 e_9 => ?_) (hx := Or.inr g_7)
  replace w := w h_8 e_9
  refine jw_aload_n (pc' := 10) rfl rfl ?_
  refine jw_iload_n (pc' := 11) rfl rfl ?_
  obtain ⟨g_10, w⟩ := w
  refine jw_putI' (pc' := 14) (F := 70) rfl rfl rfl (Or.inr rfl) (Or.inr ⟨rfl, rfl⟩) rfl (rfl) (rfl) rfl g_1 (fun h_11 e_12 => ?_) (hx := Or.inr g_10)
  replace w := w h_11 e_12
  exact jw_return rfl rfl w
def T_X16_init (D : JD) (d : Nat) (Q : JO → JH → Prop) (r0 : Nat) (r1 : Nat) (x2 : Int32) (h : JH) : Prop := W_X16_init_0 D d Q r0 r1 x2 h
theorem t_X16_init {D : JD} {d : Nat} {Q : JO → JH → Prop} {r0 : Nat} {r1 : Nat} {x2 : Int32} {h : JH} (w : T_X16_init D d Q r0 r1 x2 h) : cX16_init D (d + 1) r0 r1 x2 h Q := by
  unfold T_X16_init at w
  unfold cX16_init
  exact w_X16_init_0 w
def W_X16_code_0 (D : JD) (d : Nat) (Q : JO → JH → Prop) (r0 : Nat) (h : JH) : Prop :=
  r0 ≠ 0 ∧ (Q (.inl (some (vR 64 (jfr h 69 r0)))) h)
theorem w_X16_code_0 {D : JD} {d : Nat} {Q : JO → JH → Prop} {r0 : Nat} {h : JH} (w : W_X16_code_0 D d Q r0 h) : JW D (d + 1) mX16_code 0 [some (vR 9 r0)] [] h Q := by
  unfold W_X16_code_0 at w
  refine jw_aload_n (pc' := 1) rfl rfl ?_
  obtain ⟨g_1, w⟩ := w
  refine jw_getR (pc' := 4) (F := 69) (t' := 64) rfl rfl rfl rfl rfl g_1 ?_
  exact jw_areturn rfl rfl rfl rfl rfl w
def T_X16_code (D : JD) (d : Nat) (Q : JO → JH → Prop) (r0 : Nat) (h : JH) : Prop := W_X16_code_0 D d Q r0 h
theorem t_X16_code {D : JD} {d : Nat} {Q : JO → JH → Prop} {r0 : Nat} {h : JH} (w : T_X16_code D d Q r0 h) : cX16_code D (d + 1) r0 h Q := by
  unfold T_X16_code at w
  unfold cX16_code
  exact w_X16_code_0 w
def W_X16_place_0 (D : JD) (d : Nat) (Q : JO → JH → Prop) (r0 : Nat) (h : JH) : Prop :=
  r0 ≠ 0 ∧ (Q (.inl (some (vI (jfi h 70 r0)))) h)
theorem w_X16_place_0 {D : JD} {d : Nat} {Q : JO → JH → Prop} {r0 : Nat} {h : JH} (w : W_X16_place_0 D d Q r0 h) : JW D (d + 1) mX16_place 0 [some (vR 9 r0)] [] h Q := by
  unfold W_X16_place_0 at w
  refine jw_aload_n (pc' := 1) rfl rfl ?_
  obtain ⟨g_1, w⟩ := w
  refine jw_getI (pc' := 4) (F := 70) rfl rfl rfl rfl g_1 ?_
  exact jw_ireturn rfl rfl (rfl) w
def T_X16_place (D : JD) (d : Nat) (Q : JO → JH → Prop) (r0 : Nat) (h : JH) : Prop := W_X16_place_0 D d Q r0 h
theorem t_X16_place {D : JD} {d : Nat} {Q : JO → JH → Prop} {r0 : Nat} {h : JH} (w : T_X16_place D d Q r0 h) : cX16_place D (d + 1) r0 h Q := by
  unfold T_X16_place at w
  unfold cX16_place
  exact w_X16_place_0 w
def W_X17_init_0 (D : JD) (d : Nat) (Q : JO → JH → Prop) (r0 : Nat) (r1 : Nat) (h : JH) : Prop :=
  r0 ≠ 0 ∧ (∀ h_2 : JH, h_2 = wfr h 79 r0 r1 → (Q (.inl none) h_2))
theorem w_X17_init_0 {D : JD} {d : Nat} {Q : JO → JH → Prop} {r0 : Nat} {r1 : Nat} {h : JH} (w : W_X17_init_0 D d Q r0 r1 h) : JW D (d + 1) mX17_init 0 [some (vR 14 r0), some (vR 15 r1)] [] h Q := by
  unfold W_X17_init_0 at w
  refine jw_aload_n (pc' := 1) rfl rfl ?_
  obtain ⟨g_1, w⟩ := w
  refine jw_obj (pc' := 4) rfl (lw_g (jtb_mem (c := 5) (i := 173) rfl) rfl) rfl g_1 ?_
  refine jw_aload_n (pc' := 5) rfl rfl ?_
  refine jw_aload_n (pc' := 6) rfl rfl ?_
  refine jw_putR' (pc' := 9) (F := 79) rfl rfl rfl (Or.inr rfl) (Or.inr ⟨rfl, rfl⟩) rfl rfl rfl g_1 (fun h_2 e_3 => ?_)
  replace w := w h_2 e_3
  exact jw_return rfl rfl w
def T_X17_init (D : JD) (d : Nat) (Q : JO → JH → Prop) (r0 : Nat) (r1 : Nat) (h : JH) : Prop := W_X17_init_0 D d Q r0 r1 h
theorem t_X17_init {D : JD} {d : Nat} {Q : JO → JH → Prop} {r0 : Nat} {r1 : Nat} {h : JH} (w : T_X17_init D d Q r0 r1 h) : cX17_init D (d + 1) r0 r1 h Q := by
  unfold T_X17_init at w
  unfold cX17_init
  exact w_X17_init_0 w
def W_X17_parts_0 (D : JD) (d : Nat) (Q : JO → JH → Prop) (K0 : Nat → JH → Prop) (r0 : Nat) (h : JH) : Prop :=
  r0 ≠ 0 ∧ ((jfr h 79 r0) ≠ 0 ∧ (cX18_takes D d (jfr h 79 r0) (jcs D 29) h (pI D h (fun v_5 h_3 => (v_5 = 0 → Q (.inl none) h_3) ∧ (¬ v_5 = 0 → K0 r0 h_3)) (jth Q))))
theorem w_X17_parts_0 {D : JD} {d : Nat} {Q : JO → JH → Prop} {K0 : Nat → JH → Prop} {r0 : Nat} {h : JH} (hK0 : ∀ (r0 : Nat) (h : JH), K0 r0 h → JW D (d + 1) mX17_parts 0 [some (vR 14 r0)] [] h Q) (w : W_X17_parts_0 D d Q K0 r0 h) : JW D (d + 1) mX17_parts 0 [some (vR 14 r0)] [] h Q := by
  unfold W_X17_parts_0 at w
  refine jw_aload_n (pc' := 1) rfl rfl ?_
  obtain ⟨g_1, w⟩ := w
  refine jw_getR (pc' := 4) (F := 79) (t' := 15) rfl rfl rfl rfl rfl g_1 ?_
  refine jw_ldcS (pc' := 6) rfl rfl rfl rfl ?_
  obtain ⟨g_2, w⟩ := w
  refine jw_cI (st := []) (sa := [vR 15 (jfr h 79 r0), vR 51 (jcs D 29)]) okX18_takes rfl rfl rfl rfl rfl rfl (jstp_virtual (sa := [vR 51 (jcs D 29)]) (st := []) (k := 0) rfl rfl sX18_takes okX18_takes g_2 (one15.k g_2) rfl rfl) w (fun v_5 h_3 _ _ w => ?_)
  refine jw_if_eq (tgt := 15) (pc' := 12) rfl rfl (fun c_6 => ?_) (fun c_6 => ?_)
  · replace w := w.1 c_6
    exact jw_return rfl rfl w
  · replace w := w.2 c_6
    refine jw_goto (pc' := 0) rfl rfl ?_
    exact hK0 _ _ w
def L_X17_parts_0 (D : JD) (d : Nat) (Q : JO → JH → Prop) : Nat → Nat → JH → Prop
  | 0 => fun _ _ => False
  | n + 1 => fun r0 h => W_X17_parts_0 D d Q (L_X17_parts_0 D d Q n) r0 h
theorem l_X17_parts_0 {D : JD} {d : Nat} {Q : JO → JH → Prop} : ∀ (n : Nat) (r0 : Nat) (h : JH), L_X17_parts_0 D d Q n r0 h → JW D (d + 1) mX17_parts 0 [some (vR 14 r0)] [] h Q := by
  intro n
  induction n with
  | zero => intro _ _ w; exact w.elim
  | succ n ih => intro _ h w; exact w_X17_parts_0 ih w
def T_X17_parts (D : JD) (d : Nat) (Q : JO → JH → Prop) (r0 : Nat) (h : JH) : Prop := ∃ n, L_X17_parts_0 D d Q n r0 h
theorem t_X17_parts {D : JD} {d : Nat} {Q : JO → JH → Prop} {r0 : Nat} {h : JH} (w : T_X17_parts D d Q r0 h) : cX17_parts D (d + 1) r0 h Q := by
  unfold T_X17_parts at w
  unfold cX17_parts
  obtain ⟨n, w⟩ := w
  exact l_X17_parts_0 n _ _ w
def W_X17_ended_18 (D : JD) (d : Nat) (Q : JO → JH → Prop) (s0 : Int32) (h : JH) : Prop :=
  jbo s0 ∧ (Q (.inl (some (vI s0))) h)
theorem w_X17_ended_18 {D : JD} {d : Nat} {Q : JO → JH → Prop} {s0 : Int32} {h : JH} (w : W_X17_ended_18 D d Q s0 h) : JW D (d + 1) mX17_ended 18 [none] [vI s0] h Q := by
  unfold W_X17_ended_18 at w
  obtain ⟨g_1, w⟩ := w
  exact jw_ireturn rfl rfl (g_1.nr) w
def W_X17_ended_0 (D : JD) (d : Nat) (Q : JO → JH → Prop) (r0 : Nat) (h : JH) : Prop :=
  r0 ≠ 0 ∧ ((jfr h 79 r0) ≠ 0 ∧ ((¬ (jfr h 86 (jfr h 79 r0)) = (jcs D 350) → W_X17_ended_18 D d Q (0 : Int32) h) ∧ ((jfr h 86 (jfr h 79 r0)) = (jcs D 350) → W_X17_ended_18 D d Q (1 : Int32) h)))
theorem w_X17_ended_0 {D : JD} {d : Nat} {Q : JO → JH → Prop} {r0 : Nat} {h : JH} (w : W_X17_ended_0 D d Q r0 h) : JW D (d + 1) mX17_ended 0 [some (vR 14 r0)] [] h Q := by
  unfold W_X17_ended_0 at w
  refine jw_aload_n (pc' := 1) rfl rfl ?_
  obtain ⟨g_1, w⟩ := w
  refine jw_getR (pc' := 4) (F := 79) (t' := 15) rfl rfl rfl rfl rfl g_1 ?_
  obtain ⟨g_2, w⟩ := w
  refine jw_getR (pc' := 7) (F := 86) (t' := 53) rfl rfl rfl rfl rfl g_2 ?_
  refine jw_getsR (pc' := 10) rfl rfl rfl rfl ?_
  refine jw_acmp_ne (tgt := 17) (pc' := 13) rfl rfl (fun c_3 => ?_) (fun c_3 => ?_)
  · replace w := w.1 c_3
    refine jw_iconst (pc' := 18) (x := (0 : Int32)) rfl rfl ?_
    refine jw_gen (ls' := [none]) (st' := [vI (0 : Int32)]) (trivial) (And.intro (Or.inl rfl) (trivial)) ?_
    exact w_X17_ended_18 w
  · replace w := w.2 c_3
    refine jw_iconst (pc' := 14) (x := (1 : Int32)) rfl rfl ?_
    refine jw_goto (pc' := 18) rfl rfl ?_
    refine jw_gen (ls' := [none]) (st' := [vI (1 : Int32)]) (trivial) (And.intro (Or.inl rfl) (trivial)) ?_
    exact w_X17_ended_18 w
def T_X17_ended (D : JD) (d : Nat) (Q : JO → JH → Prop) (r0 : Nat) (h : JH) : Prop := W_X17_ended_0 D d Q r0 h
theorem t_X17_ended {D : JD} {d : Nat} {Q : JO → JH → Prop} {r0 : Nat} {h : JH} (w : T_X17_ended D d Q r0 h) : cX17_ended D (d + 1) r0 h Q := by
  unfold T_X17_ended at w
  unfold cX17_ended
  exact w_X17_ended_0 w
def W_X17_broken_0 (D : JD) (d : Nat) (Q : JO → JH → Prop) (r0 : Nat) (h : JH) : Prop :=
  r0 ≠ 0 ∧ ((jfr h 79 r0) ≠ 0 ∧ (cX18_broken D d (jfr h 79 r0) h (pR D h 9 (fun v_5 h_3 => Q (.inl (some (vR 9 v_5))) h_3) (jth Q))))
theorem w_X17_broken_0 {D : JD} {d : Nat} {Q : JO → JH → Prop} {r0 : Nat} {h : JH} (w : W_X17_broken_0 D d Q r0 h) : JW D (d + 1) mX17_broken 0 [some (vR 14 r0)] [] h Q := by
  unfold W_X17_broken_0 at w
  refine jw_aload_n (pc' := 1) rfl rfl ?_
  obtain ⟨g_1, w⟩ := w
  refine jw_getR (pc' := 4) (F := 79) (t' := 15) rfl rfl rfl rfl rfl g_1 ?_
  obtain ⟨g_2, w⟩ := w
  refine jw_cR (st := []) (sa := [vR 15 (jfr h 79 r0)]) okX18_broken rfl rfl rfl rfl rfl rfl (jstp_virtual (sa := []) (st := []) (k := 0) rfl rfl sX18_broken okX18_broken g_2 (one15.k g_2) rfl rfl) w (fun v_5 h_3 _ _ _ w => ?_)
  exact jw_areturn rfl rfl rfl rfl rfl w
def T_X17_broken (D : JD) (d : Nat) (Q : JO → JH → Prop) (r0 : Nat) (h : JH) : Prop := W_X17_broken_0 D d Q r0 h
theorem t_X17_broken {D : JD} {d : Nat} {Q : JO → JH → Prop} {r0 : Nat} {h : JH} (w : T_X17_broken D d Q r0 h) : cX17_broken D (d + 1) r0 h Q := by
  unfold T_X17_broken at w
  unfold cX17_broken
  exact w_X17_broken_0 w
def W_X17_statement_454 (D : JD) (d : Nat) (Q : JO → JH → Prop) (r1 : Nat) (h : JH) : Prop :=
  Q (.inl (some (vR 57 r1))) h
theorem w_X17_statement_454 {D : JD} {d : Nat} {Q : JO → JH → Prop} {r1 : Nat} {h : JH} (w : W_X17_statement_454 D d Q r1 h) : JW D (d + 1) mX17_statement 454 [none, some (vR 57 r1), none, none] [] h Q := by
  unfold W_X17_statement_454 at w
  refine jw_aload_n (pc' := 455) rfl rfl ?_
  exact jw_areturn rfl rfl rfl rfl rfl w
def W_X17_statement_430 (D : JD) (d : Nat) (Q : JO → JH → Prop) (r0 : Nat) (r1 : Nat) (h : JH) : Prop :=
  r0 ≠ 0 ∧ (cX17_ended D d r0 h (pI D h (fun v_4 h_2 => (¬ v_4 = 0 → W_X17_statement_454 D d Q r1 h_2) ∧ (v_4 = 0 → (jfr h_2 79 r0) ≠ 0 ∧ (cX18_is D d (jfr h_2 79 r0) (jcs D 29) h_2 (pI D h_2 (fun v_9 h_7 => (¬ v_9 = 0 → W_X17_statement_454 D d Q r1 h_7) ∧ (v_9 = 0 → cX17_broken D d r0 h_7 (pR D h_7 9 (fun v_13 h_11 => v_13 ≠ 0 ∧ (Q (.inr v_13) h_11)) (jth Q)))) (jth Q))))) (jth Q)))
theorem w_X17_statement_430 {D : JD} {d : Nat} {Q : JO → JH → Prop} {r0 : Nat} {r1 : Nat} {h : JH} (w : W_X17_statement_430 D d Q r0 r1 h) : JW D (d + 1) mX17_statement 430 [some (vR 14 r0), some (vR 57 r1), none, none] [] h Q := by
  unfold W_X17_statement_430 at w
  refine jw_aload_n (pc' := 431) rfl rfl ?_
  obtain ⟨g_1, w⟩ := w
  refine jw_cI (st := []) (sa := [vR 14 r0]) okX17_ended rfl rfl rfl rfl rfl rfl (jstp_virtual (sa := []) (st := []) (k := 0) rfl rfl sX17_ended okX17_ended g_1 (one14.k g_1) rfl rfl) w (fun v_4 h_2 _ _ w => ?_)
  refine jw_if_ne (tgt := 454) (pc' := 437) rfl rfl (fun c_5 => ?_) (fun c_5 => ?_)
  · replace w := w.1 c_5
    refine jw_gen (ls' := [none, some (vR 57 r1), none, none]) (st' := []) (And.intro (Or.inl rfl) (trivial)) (trivial) ?_
    exact w_X17_statement_454 w
  · replace w := w.2 c_5
    refine jw_aload_n (pc' := 438) rfl rfl ?_
    refine jw_getR (pc' := 441) (F := 79) (t' := 15) rfl rfl rfl rfl rfl g_1 ?_
    refine jw_ldcS (pc' := 443) rfl rfl rfl rfl ?_
    obtain ⟨g_6, w⟩ := w
    refine jw_cI (st := []) (sa := [vR 15 (jfr h_2 79 r0), vR 51 (jcs D 29)]) okX18_is rfl rfl rfl rfl rfl rfl (jstp_virtual (sa := [vR 51 (jcs D 29)]) (st := []) (k := 0) rfl rfl sX18_is okX18_is g_6 (one15.k g_6) rfl rfl) w (fun v_9 h_7 _ _ w => ?_)
    refine jw_if_ne (tgt := 454) (pc' := 449) rfl rfl (fun c_10 => ?_) (fun c_10 => ?_)
    · replace w := w.1 c_10
      refine jw_gen (ls' := [none, some (vR 57 r1), none, none]) (st' := []) (And.intro (Or.inl rfl) (trivial)) (trivial) ?_
      exact w_X17_statement_454 w
    · replace w := w.2 c_10
      refine jw_aload_n (pc' := 450) rfl rfl ?_
      refine jw_cR (st := []) (sa := [vR 14 r0]) okX17_broken rfl rfl rfl rfl rfl rfl (jstp_virtual (sa := []) (st := []) (k := 0) rfl rfl sX17_broken okX17_broken g_1 (one14.k g_1) rfl rfl) w (fun v_13 h_11 _ _ _ w => ?_)
      obtain ⟨g_14, w⟩ := w
      exact jw_athrow rfl rfl g_14 w
def W_X17_statement_246 (D : JD) (d : Nat) (Q : JO → JH → Prop) (r0 : Nat) (x3 : Int32) (h : JH) : Prop :=
  (x3 = (0 : Int32) → r0 ≠ 0 ∧ (cX17_create D d r0 h (pR D h 57 (fun v_5 h_3 => W_X17_statement_430 D d Q r0 v_5 h_3) (jth Q)))) ∧ (x3 = (1 : Int32) → r0 ≠ 0 ∧ ((jfr h 79 r0) ≠ 0 ∧ (cX18_next D d (jfr h 79 r0) h (pV D h (fun h_9 => (jfr h_9 79 r0) ≠ 0 ∧ (cX18_needWord D d (jfr h_9 79 r0) (jcs D 41) h_9 (pV D h_9 (fun h_13 => ∀ (r_16 : Nat) (h_17 : JH), r_16 = jsz h_13 + 1 → h_17 = nwo h_13 18 1 → ((jfr h_17 79 r0) ≠ 0 ∧ (cX18_name D d (jfr h_17 79 r0) h_17 (pR D h_17 64 (fun v_23 h_21 => cX22_init D d r_16 v_23 h_21 (pV D h_21 (fun h_24 => W_X17_statement_430 D d Q r0 r_16 h_24) (jth Q))) (jth Q))))) (jth Q)))) (jth Q))))) ∧ (x3 = (2 : Int32) → r0 ≠ 0 ∧ (cX17_insert D d r0 h (pR D h 57 (fun v_31 h_29 => W_X17_statement_430 D d Q r0 v_31 h_29) (jth Q)))) ∧ (x3 = (3 : Int32) → r0 ≠ 0 ∧ (cX17_update D d r0 h (pR D h 57 (fun v_36 h_34 => W_X17_statement_430 D d Q r0 v_36 h_34) (jth Q)))) ∧ (x3 = (4 : Int32) → r0 ≠ 0 ∧ ((jfr h 79 r0) ≠ 0 ∧ (cX18_next D d (jfr h 79 r0) h (pV D h (fun h_40 => (jfr h_40 79 r0) ≠ 0 ∧ (cX18_needWord D d (jfr h_40 79 r0) (jcs D 137) h_40 (pV D h_40 (fun h_44 => ∀ (r_47 : Nat) (h_48 : JH), r_47 = jsz h_44 + 1 → h_48 = nwo h_44 32 3 → ((jfr h_48 79 r0) ≠ 0 ∧ (cX18_name D d (jfr h_48 79 r0) h_48 (pR D h_48 64 (fun v_54 h_52 => cX17_where D d r0 h_52 (pR D h_52 55 (fun v_57 h_55 => cX39_init D d r_47 v_54 v_57 h_55 (pV D h_55 (fun h_58 => W_X17_statement_430 D d Q r0 r_47 h_58) (jth Q))) (jth Q))) (jth Q))))) (jth Q)))) (jth Q))))) ∧ (x3 = (5 : Int32) → r0 ≠ 0 ∧ (cX17_select D d r0 h (pR D h 57 (fun v_65 h_63 => W_X17_statement_430 D d Q r0 v_65 h_63) (jth Q)))) ∧ (x3 = (6 : Int32) → ∀ (r_67 : Nat) (h_68 : JH), r_67 = jsz h + 1 → h_68 = nwo h 35 1 → (r0 ≠ 0 ∧ ((jfr h_68 79 r0) ≠ 0 ∧ (cX42_init D d r_67 (jfr h_68 88 (jfr h_68 79 r0)) h_68 (pV D h_68 (fun h_73 => (jfr h_73 79 r0) ≠ 0 ∧ (cX18_next D d (jfr h_73 79 r0) h_73 (pV D h_73 (fun h_77 => W_X17_statement_430 D d Q r0 r_67 h_77) (jth Q)))) (jth Q)))))) ∧ (x3 = (7 : Int32) → ∀ (r_81 : Nat) (h_82 : JH), r_81 = jsz h + 1 → h_82 = nwo h 35 1 → (r0 ≠ 0 ∧ ((jfr h_82 79 r0) ≠ 0 ∧ (cX42_init D d r_81 (jfr h_82 88 (jfr h_82 79 r0)) h_82 (pV D h_82 (fun h_87 => (jfr h_87 79 r0) ≠ 0 ∧ (cX18_next D d (jfr h_87 79 r0) h_87 (pV D h_87 (fun h_91 => W_X17_statement_430 D d Q r0 r_81 h_91) (jth Q)))) (jth Q)))))) ∧ (x3 = (8 : Int32) → ∀ (r_95 : Nat) (h_96 : JH), r_95 = jsz h + 1 → h_96 = nwo h 35 1 → (r0 ≠ 0 ∧ ((jfr h_96 79 r0) ≠ 0 ∧ (cX42_init D d r_95 (jfr h_96 88 (jfr h_96 79 r0)) h_96 (pV D h_96 (fun h_101 => (jfr h_101 79 r0) ≠ 0 ∧ (cX18_next D d (jfr h_101 79 r0) h_101 (pV D h_101 (fun h_105 => W_X17_statement_430 D d Q r0 r_95 h_105) (jth Q)))) (jth Q)))))) ∧ (¬ x3 = (0 : Int32) → ¬ x3 = (1 : Int32) → ¬ x3 = (2 : Int32) → ¬ x3 = (3 : Int32) → ¬ x3 = (4 : Int32) → ¬ x3 = (5 : Int32) → ¬ x3 = (6 : Int32) → ¬ x3 = (7 : Int32) → ¬ x3 = (8 : Int32) → r0 ≠ 0 ∧ (cX17_broken D d r0 h (pR D h 9 (fun v_111 h_109 => v_111 ≠ 0 ∧ (Q (.inr v_111) h_109)) (jth Q))))
theorem w_X17_statement_246 {D : JD} {d : Nat} {Q : JO → JH → Prop} {r0 : Nat} {x3 : Int32} {h : JH} (w : W_X17_statement_246 D d Q r0 x3 h) : JW D (d + 1) mX17_statement 246 [some (vR 14 r0), none, none, some (vI x3)] [] h Q := by
  unfold W_X17_statement_246 at w
  refine jw_iload_n (pc' := 247) rfl rfl ?_
  refine jw_tsw (cs := [((0 : Int32), 296), ((1 : Int32), 304), ((2 : Int32), 338), ((3 : Int32), 346), ((4 : Int32), 354), ((5 : Int32), 392), ((6 : Int32), 400), ((7 : Int32), 400), ((8 : Int32), 400)]) (dt := 425) rfl (by decide +kernel) ?_
  by_cases c_1 : x3 = (0 : Int32)
  · rw [jsw_hit c_1]
    replace w := w.1 c_1
    refine jw_aload_n (pc' := 297) rfl rfl ?_
    obtain ⟨g_2, w⟩ := w
    refine jw_cR (st := []) (sa := [vR 14 r0]) okX17_create rfl rfl rfl rfl rfl rfl (jstp_virtual (sa := []) (st := []) (k := 0) rfl rfl sX17_create okX17_create g_2 (one14.k g_2) rfl rfl) w (fun v_5 h_3 _ _ _ w => ?_)
    refine jw_astore_n (pc' := 301) (ls' := [some (vR 14 r0), some (vR 57 v_5), none, some (vI x3)]) rfl (by decide) rfl ?_
    refine jw_goto (pc' := 430) rfl rfl ?_
    refine jw_gen (ls' := [some (vR 14 r0), some (vR 57 v_5), none, none]) (st' := []) (And.intro (Or.inl rfl) (And.intro (Or.inl rfl) (trivial))) (trivial) ?_
    exact w_X17_statement_430 w
  · rw [jsw_miss c_1]
    replace w := w.2
    by_cases c_6 : x3 = (1 : Int32)
    · rw [jsw_hit c_6]
      replace w := w.1 c_6
      refine jw_aload_n (pc' := 305) rfl rfl ?_
      obtain ⟨g_7, w⟩ := w
      refine jw_getR (pc' := 308) (F := 79) (t' := 15) rfl rfl rfl rfl rfl g_7 ?_
      obtain ⟨g_8, w⟩ := w
      refine jw_cV (st := []) (sa := [vR 15 (jfr h 79 r0)]) okX18_next rfl rfl rfl rfl rfl rfl (jstp_virtual (sa := []) (st := []) (k := 0) rfl rfl sX18_next okX18_next g_8 (one15.k g_8) rfl rfl) w (fun h_9 _ _ w => ?_)
      refine jw_aload_n (pc' := 312) rfl rfl ?_
      refine jw_getR (pc' := 315) (F := 79) (t' := 15) rfl rfl rfl rfl rfl g_7 ?_
      refine jw_ldcS (pc' := 317) rfl rfl rfl rfl ?_
      obtain ⟨g_12, w⟩ := w
      refine jw_cV (st := []) (sa := [vR 15 (jfr h_9 79 r0), vR 51 (jcs D 41)]) okX18_needWord rfl rfl rfl rfl rfl rfl (jstp_virtual (sa := [vR 51 (jcs D 41)]) (st := []) (k := 0) rfl rfl sX18_needWord okX18_needWord g_12 (one15.k g_12) rfl rfl) w (fun h_13 _ _ w => ?_)
      refine jw_new' (pc' := 323) (k := 18) (n := 1) rfl rfl rfl rfl rfl rfl rfl (fun r_16 h_17 e_18 e_19 => ?_)
      replace w := w r_16 h_17 e_18 e_19
      refine jw_dup (pc' := 324) rfl rfl ?_
      refine jw_aload_n (pc' := 325) rfl rfl ?_
      refine jw_getR (pc' := 328) (F := 79) (t' := 15) rfl rfl rfl rfl rfl g_7 ?_
      obtain ⟨g_20, w⟩ := w
      refine jw_cR (st := [vR 18 r_16, vR 18 r_16]) (sa := [vR 15 (jfr h_17 79 r0)]) okX18_name rfl rfl rfl rfl rfl rfl (jstp_virtual (sa := []) (st := [vR 18 r_16, vR 18 r_16]) (k := 0) rfl rfl sX18_name okX18_name g_20 (one15.k g_20) rfl rfl) w (fun v_23 h_21 _ _ _ w => ?_)
      refine jw_cV (st := [vR 18 r_16]) (sa := [vR 18 r_16, vR 64 v_23]) okX22_init rfl rfl rfl rfl rfl rfl (jstp_init (sa := [vR 64 v_23]) (st := [vR 18 r_16]) rfl rfl sX22_init okX22_init (lw_g (jtb_mem (c := 6) (i := 204) rfl) rfl) (jnz e_18) rfl rfl) w (fun h_24 _ _ w => ?_)
      refine jw_astore_n (pc' := 335) (ls' := [some (vR 14 r0), some (vR 18 r_16), none, some (vI x3)]) rfl (by decide) rfl ?_
      refine jw_goto (pc' := 430) rfl rfl ?_
      refine jw_gen (ls' := [some (vR 14 r0), some (vR 57 r_16), none, none]) (st' := []) (And.intro (Or.inl rfl) (And.intro (Or.inr ⟨_, _, _, rfl, rfl, Or.inr (Or.inl rfl)⟩) (trivial))) (trivial) ?_
      exact w_X17_statement_430 w
    · rw [jsw_miss c_6]
      replace w := w.2
      by_cases c_27 : x3 = (2 : Int32)
      · rw [jsw_hit c_27]
        replace w := w.1 c_27
        refine jw_aload_n (pc' := 339) rfl rfl ?_
        obtain ⟨g_28, w⟩ := w
        refine jw_cR (st := []) (sa := [vR 14 r0]) okX17_insert rfl rfl rfl rfl rfl rfl (jstp_virtual (sa := []) (st := []) (k := 0) rfl rfl sX17_insert okX17_insert g_28 (one14.k g_28) rfl rfl) w (fun v_31 h_29 _ _ _ w => ?_)
        refine jw_astore_n (pc' := 343) (ls' := [some (vR 14 r0), some (vR 57 v_31), none, some (vI x3)]) rfl (by decide) rfl ?_
        refine jw_goto (pc' := 430) rfl rfl ?_
        refine jw_gen (ls' := [some (vR 14 r0), some (vR 57 v_31), none, none]) (st' := []) (And.intro (Or.inl rfl) (And.intro (Or.inl rfl) (trivial))) (trivial) ?_
        exact w_X17_statement_430 w
      · rw [jsw_miss c_27]
        replace w := w.2
        by_cases c_32 : x3 = (3 : Int32)
        · rw [jsw_hit c_32]
          replace w := w.1 c_32
          refine jw_aload_n (pc' := 347) rfl rfl ?_
          obtain ⟨g_33, w⟩ := w
          refine jw_cR (st := []) (sa := [vR 14 r0]) okX17_update rfl rfl rfl rfl rfl rfl (jstp_virtual (sa := []) (st := []) (k := 0) rfl rfl sX17_update okX17_update g_33 (one14.k g_33) rfl rfl) w (fun v_36 h_34 _ _ _ w => ?_)
          refine jw_astore_n (pc' := 351) (ls' := [some (vR 14 r0), some (vR 57 v_36), none, some (vI x3)]) rfl (by decide) rfl ?_
          refine jw_goto (pc' := 430) rfl rfl ?_
          refine jw_gen (ls' := [some (vR 14 r0), some (vR 57 v_36), none, none]) (st' := []) (And.intro (Or.inl rfl) (And.intro (Or.inl rfl) (trivial))) (trivial) ?_
          exact w_X17_statement_430 w
        · rw [jsw_miss c_32]
          replace w := w.2
          by_cases c_37 : x3 = (4 : Int32)
          · rw [jsw_hit c_37]
            replace w := w.1 c_37
            refine jw_aload_n (pc' := 355) rfl rfl ?_
            obtain ⟨g_38, w⟩ := w
            refine jw_getR (pc' := 358) (F := 79) (t' := 15) rfl rfl rfl rfl rfl g_38 ?_
            obtain ⟨g_39, w⟩ := w
            refine jw_cV (st := []) (sa := [vR 15 (jfr h 79 r0)]) okX18_next rfl rfl rfl rfl rfl rfl (jstp_virtual (sa := []) (st := []) (k := 0) rfl rfl sX18_next okX18_next g_39 (one15.k g_39) rfl rfl) w (fun h_40 _ _ w => ?_)
            refine jw_aload_n (pc' := 362) rfl rfl ?_
            refine jw_getR (pc' := 365) (F := 79) (t' := 15) rfl rfl rfl rfl rfl g_38 ?_
            refine jw_ldcS (pc' := 367) rfl rfl rfl rfl ?_
            obtain ⟨g_43, w⟩ := w
            refine jw_cV (st := []) (sa := [vR 15 (jfr h_40 79 r0), vR 51 (jcs D 137)]) okX18_needWord rfl rfl rfl rfl rfl rfl (jstp_virtual (sa := [vR 51 (jcs D 137)]) (st := []) (k := 0) rfl rfl sX18_needWord okX18_needWord g_43 (one15.k g_43) rfl rfl) w (fun h_44 _ _ w => ?_)
            refine jw_new' (pc' := 373) (k := 32) (n := 3) rfl rfl rfl rfl rfl rfl rfl (fun r_47 h_48 e_49 e_50 => ?_)
            replace w := w r_47 h_48 e_49 e_50
            refine jw_dup (pc' := 374) rfl rfl ?_
            refine jw_aload_n (pc' := 375) rfl rfl ?_
            refine jw_getR (pc' := 378) (F := 79) (t' := 15) rfl rfl rfl rfl rfl g_38 ?_
            obtain ⟨g_51, w⟩ := w
            refine jw_cR (st := [vR 32 r_47, vR 32 r_47]) (sa := [vR 15 (jfr h_48 79 r0)]) okX18_name rfl rfl rfl rfl rfl rfl (jstp_virtual (sa := []) (st := [vR 32 r_47, vR 32 r_47]) (k := 0) rfl rfl sX18_name okX18_name g_51 (one15.k g_51) rfl rfl) w (fun v_54 h_52 _ _ _ w => ?_)
            refine jw_aload_n (pc' := 382) rfl rfl ?_
            refine jw_cR (st := [vR 64 v_54, vR 32 r_47, vR 32 r_47]) (sa := [vR 14 r0]) okX17_where rfl rfl rfl rfl rfl rfl (jstp_virtual (sa := []) (st := [vR 64 v_54, vR 32 r_47, vR 32 r_47]) (k := 0) rfl rfl sX17_where okX17_where g_38 (one14.k g_38) rfl rfl) w (fun v_57 h_55 _ _ _ w => ?_)
            refine jw_cV (st := [vR 32 r_47]) (sa := [vR 32 r_47, vR 64 v_54, vR 55 v_57]) okX39_init rfl rfl rfl rfl rfl rfl (jstp_init (sa := [vR 64 v_54, vR 55 v_57]) (st := [vR 32 r_47]) rfl rfl sX39_init okX39_init (lw_g (jtb_mem (c := 9) (i := 49) rfl) rfl) (jnz e_49) rfl rfl) w (fun h_58 _ _ w => ?_)
            refine jw_astore_n (pc' := 389) (ls' := [some (vR 14 r0), some (vR 32 r_47), none, some (vI x3)]) rfl (by decide) rfl ?_
            refine jw_goto (pc' := 430) rfl rfl ?_
            refine jw_gen (ls' := [some (vR 14 r0), some (vR 57 r_47), none, none]) (st' := []) (And.intro (Or.inl rfl) (And.intro (Or.inr ⟨_, _, _, rfl, rfl, Or.inr (Or.inl rfl)⟩) (trivial))) (trivial) ?_
            exact w_X17_statement_430 w
          · rw [jsw_miss c_37]
            replace w := w.2
            by_cases c_61 : x3 = (5 : Int32)
            · rw [jsw_hit c_61]
              replace w := w.1 c_61
              refine jw_aload_n (pc' := 393) rfl rfl ?_
              obtain ⟨g_62, w⟩ := w
              refine jw_cR (st := []) (sa := [vR 14 r0]) okX17_select rfl rfl rfl rfl rfl rfl (jstp_virtual (sa := []) (st := []) (k := 0) rfl rfl sX17_select okX17_select g_62 (one14.k g_62) rfl rfl) w (fun v_65 h_63 _ _ _ w => ?_)
              refine jw_astore_n (pc' := 397) (ls' := [some (vR 14 r0), some (vR 57 v_65), none, some (vI x3)]) rfl (by decide) rfl ?_
              refine jw_goto (pc' := 430) rfl rfl ?_
              refine jw_gen (ls' := [some (vR 14 r0), some (vR 57 v_65), none, none]) (st' := []) (And.intro (Or.inl rfl) (And.intro (Or.inl rfl) (trivial))) (trivial) ?_
              exact w_X17_statement_430 w
            · rw [jsw_miss c_61]
              replace w := w.2
              by_cases c_66 : x3 = (6 : Int32)
              · rw [jsw_hit c_66]
                replace w := w.1 c_66
                refine jw_new' (pc' := 403) (k := 35) (n := 1) rfl rfl rfl rfl rfl rfl rfl (fun r_67 h_68 e_69 e_70 => ?_)
                replace w := w r_67 h_68 e_69 e_70
                refine jw_dup (pc' := 404) rfl rfl ?_
                refine jw_aload_n (pc' := 405) rfl rfl ?_
                obtain ⟨g_71, w⟩ := w
                refine jw_getR (pc' := 408) (F := 79) (t' := 15) rfl rfl rfl rfl rfl g_71 ?_
                obtain ⟨g_72, w⟩ := w
                refine jw_getR (pc' := 411) (F := 88) (t' := 64) rfl rfl rfl rfl rfl g_72 ?_
                refine jw_cV (st := [vR 35 r_67]) (sa := [vR 35 r_67, vR 64 (jfr h_68 88 (jfr h_68 79 r0))]) okX42_init rfl rfl rfl rfl rfl rfl (jstp_init (sa := [vR 64 (jfr h_68 88 (jfr h_68 79 r0))]) (st := [vR 35 r_67]) rfl rfl sX42_init okX42_init (lw_g (jtb_mem (c := 9) (i := 215) rfl) rfl) (jnz e_69) rfl rfl) w (fun h_73 _ _ w => ?_)
                refine jw_astore_n (pc' := 415) (ls' := [some (vR 14 r0), some (vR 35 r_67), none, some (vI x3)]) rfl (by decide) rfl ?_
                refine jw_aload_n (pc' := 416) rfl rfl ?_
                refine jw_getR (pc' := 419) (F := 79) (t' := 15) rfl rfl rfl rfl rfl g_71 ?_
                obtain ⟨g_76, w⟩ := w
                refine jw_cV (st := []) (sa := [vR 15 (jfr h_73 79 r0)]) okX18_next rfl rfl rfl rfl rfl rfl (jstp_virtual (sa := []) (st := []) (k := 0) rfl rfl sX18_next okX18_next g_76 (one15.k g_76) rfl rfl) w (fun h_77 _ _ w => ?_)
                refine jw_goto (pc' := 430) rfl rfl ?_
                refine jw_gen (ls' := [some (vR 14 r0), some (vR 57 r_67), none, none]) (st' := []) (And.intro (Or.inl rfl) (And.intro (Or.inr ⟨_, _, _, rfl, rfl, Or.inr (Or.inl rfl)⟩) (trivial))) (trivial) ?_
                exact w_X17_statement_430 w
              · rw [jsw_miss c_66]
                replace w := w.2
                by_cases c_80 : x3 = (7 : Int32)
                · rw [jsw_hit c_80]
                  replace w := w.1 c_80
                  refine jw_new' (pc' := 403) (k := 35) (n := 1) rfl rfl rfl rfl rfl rfl rfl (fun r_81 h_82 e_83 e_84 => ?_)
                  replace w := w r_81 h_82 e_83 e_84
                  refine jw_dup (pc' := 404) rfl rfl ?_
                  refine jw_aload_n (pc' := 405) rfl rfl ?_
                  obtain ⟨g_85, w⟩ := w
                  refine jw_getR (pc' := 408) (F := 79) (t' := 15) rfl rfl rfl rfl rfl g_85 ?_
                  obtain ⟨g_86, w⟩ := w
                  refine jw_getR (pc' := 411) (F := 88) (t' := 64) rfl rfl rfl rfl rfl g_86 ?_
                  refine jw_cV (st := [vR 35 r_81]) (sa := [vR 35 r_81, vR 64 (jfr h_82 88 (jfr h_82 79 r0))]) okX42_init rfl rfl rfl rfl rfl rfl (jstp_init (sa := [vR 64 (jfr h_82 88 (jfr h_82 79 r0))]) (st := [vR 35 r_81]) rfl rfl sX42_init okX42_init (lw_g (jtb_mem (c := 9) (i := 215) rfl) rfl) (jnz e_83) rfl rfl) w (fun h_87 _ _ w => ?_)
                  refine jw_astore_n (pc' := 415) (ls' := [some (vR 14 r0), some (vR 35 r_81), none, some (vI x3)]) rfl (by decide) rfl ?_
                  refine jw_aload_n (pc' := 416) rfl rfl ?_
                  refine jw_getR (pc' := 419) (F := 79) (t' := 15) rfl rfl rfl rfl rfl g_85 ?_
                  obtain ⟨g_90, w⟩ := w
                  refine jw_cV (st := []) (sa := [vR 15 (jfr h_87 79 r0)]) okX18_next rfl rfl rfl rfl rfl rfl (jstp_virtual (sa := []) (st := []) (k := 0) rfl rfl sX18_next okX18_next g_90 (one15.k g_90) rfl rfl) w (fun h_91 _ _ w => ?_)
                  refine jw_goto (pc' := 430) rfl rfl ?_
                  refine jw_gen (ls' := [some (vR 14 r0), some (vR 57 r_81), none, none]) (st' := []) (And.intro (Or.inl rfl) (And.intro (Or.inr ⟨_, _, _, rfl, rfl, Or.inr (Or.inl rfl)⟩) (trivial))) (trivial) ?_
                  exact w_X17_statement_430 w
                · rw [jsw_miss c_80]
                  replace w := w.2
                  by_cases c_94 : x3 = (8 : Int32)
                  · rw [jsw_hit c_94]
                    replace w := w.1 c_94
                    refine jw_new' (pc' := 403) (k := 35) (n := 1) rfl rfl rfl rfl rfl rfl rfl (fun r_95 h_96 e_97 e_98 => ?_)
                    replace w := w r_95 h_96 e_97 e_98
                    refine jw_dup (pc' := 404) rfl rfl ?_
                    refine jw_aload_n (pc' := 405) rfl rfl ?_
                    obtain ⟨g_99, w⟩ := w
                    refine jw_getR (pc' := 408) (F := 79) (t' := 15) rfl rfl rfl rfl rfl g_99 ?_
                    obtain ⟨g_100, w⟩ := w
                    refine jw_getR (pc' := 411) (F := 88) (t' := 64) rfl rfl rfl rfl rfl g_100 ?_
                    refine jw_cV (st := [vR 35 r_95]) (sa := [vR 35 r_95, vR 64 (jfr h_96 88 (jfr h_96 79 r0))]) okX42_init rfl rfl rfl rfl rfl rfl (jstp_init (sa := [vR 64 (jfr h_96 88 (jfr h_96 79 r0))]) (st := [vR 35 r_95]) rfl rfl sX42_init okX42_init (lw_g (jtb_mem (c := 9) (i := 215) rfl) rfl) (jnz e_97) rfl rfl) w (fun h_101 _ _ w => ?_)
                    refine jw_astore_n (pc' := 415) (ls' := [some (vR 14 r0), some (vR 35 r_95), none, some (vI x3)]) rfl (by decide) rfl ?_
                    refine jw_aload_n (pc' := 416) rfl rfl ?_
                    refine jw_getR (pc' := 419) (F := 79) (t' := 15) rfl rfl rfl rfl rfl g_99 ?_
                    obtain ⟨g_104, w⟩ := w
                    refine jw_cV (st := []) (sa := [vR 15 (jfr h_101 79 r0)]) okX18_next rfl rfl rfl rfl rfl rfl (jstp_virtual (sa := []) (st := []) (k := 0) rfl rfl sX18_next okX18_next g_104 (one15.k g_104) rfl rfl) w (fun h_105 _ _ w => ?_)
                    refine jw_goto (pc' := 430) rfl rfl ?_
                    refine jw_gen (ls' := [some (vR 14 r0), some (vR 57 r_95), none, none]) (st' := []) (And.intro (Or.inl rfl) (And.intro (Or.inr ⟨_, _, _, rfl, rfl, Or.inr (Or.inl rfl)⟩) (trivial))) (trivial) ?_
                    exact w_X17_statement_430 w
                  · rw [jsw_miss c_94]
                    replace w := w.2
                    rw [jsw_nil]
                    replace w := w c_1 c_6 c_27 c_32 c_37 c_61 c_66 c_80 c_94
                    refine jw_aload_n (pc' := 426) rfl rfl ?_
                    obtain ⟨g_108, w⟩ := w
                    refine jw_cR (st := []) (sa := [vR 14 r0]) okX17_broken rfl rfl rfl rfl rfl rfl (jstp_virtual (sa := []) (st := []) (k := 0) rfl rfl sX17_broken okX17_broken g_108 (one14.k g_108) rfl rfl) w (fun v_111 h_109 _ _ _ w => ?_)
                    obtain ⟨g_112, w⟩ := w
                    exact jw_athrow rfl rfl g_112 w
def W_X17_statement_30 (D : JD) (d : Nat) (Q : JO → JH → Prop) (r0 : Nat) (q0 : Nat) (h : JH) : Prop :=
  q0 ≠ 0 ∧ (cJ5_hashCode D d q0 h (pI D h (fun v_4 h_2 => (v_4 = (-1354815177 : Int32) → cJ5_equals D d q0 (jcs D 39) h_2 (pI D h_2 (fun v_8 h_6 => (v_8 = 0 → W_X17_statement_246 D d Q r0 (-1 : Int32) h_6) ∧ (¬ v_8 = 0 → W_X17_statement_246 D d Q r0 (7 : Int32) h_6)) (jth Q))) ∧ (v_4 = (-1352294148 : Int32) → cJ5_equals D d q0 (jcs D 32) h_2 (pI D h_2 (fun v_13 h_11 => (v_13 = 0 → W_X17_statement_246 D d Q r0 (-1 : Int32) h_11) ∧ (¬ v_13 = 0 → W_X17_statement_246 D d Q r0 (0 : Int32) h_11)) (jth Q))) ∧ (v_4 = (-1335458389 : Int32) → cJ5_equals D d q0 (jcs D 36) h_2 (pI D h_2 (fun v_18 h_16 => (v_18 = 0 → W_X17_statement_246 D d Q r0 (-1 : Int32) h_16) ∧ (¬ v_18 = 0 → W_X17_statement_246 D d Q r0 (4 : Int32) h_16)) (jth Q))) ∧ (v_4 = (-1183792455 : Int32) → cJ5_equals D d q0 (jcs D 34) h_2 (pI D h_2 (fun v_23 h_21 => (v_23 = 0 → W_X17_statement_246 D d Q r0 (-1 : Int32) h_21) ∧ (¬ v_23 = 0 → W_X17_statement_246 D d Q r0 (2 : Int32) h_21)) (jth Q))) ∧ (v_4 = (-906021636 : Int32) → cJ5_equals D d q0 (jcs D 37) h_2 (pI D h_2 (fun v_28 h_26 => (v_28 = 0 → W_X17_statement_246 D d Q r0 (-1 : Int32) h_26) ∧ (¬ v_28 = 0 → W_X17_statement_246 D d Q r0 (5 : Int32) h_26)) (jth Q))) ∧ (v_4 = (-838846263 : Int32) → cJ5_equals D d q0 (jcs D 35) h_2 (pI D h_2 (fun v_33 h_31 => (v_33 = 0 → W_X17_statement_246 D d Q r0 (-1 : Int32) h_31) ∧ (¬ v_33 = 0 → W_X17_statement_246 D d Q r0 (3 : Int32) h_31)) (jth Q))) ∧ (v_4 = (-259719452 : Int32) → cJ5_equals D d q0 (jcs D 40) h_2 (pI D h_2 (fun v_38 h_36 => (v_38 = 0 → W_X17_statement_246 D d Q r0 (-1 : Int32) h_36) ∧ (¬ v_38 = 0 → W_X17_statement_246 D d Q r0 (8 : Int32) h_36)) (jth Q))) ∧ (v_4 = (3092207 : Int32) → cJ5_equals D d q0 (jcs D 33) h_2 (pI D h_2 (fun v_43 h_41 => (v_43 = 0 → W_X17_statement_246 D d Q r0 (-1 : Int32) h_41) ∧ (¬ v_43 = 0 → W_X17_statement_246 D d Q r0 (1 : Int32) h_41)) (jth Q))) ∧ (v_4 = (93616297 : Int32) → cJ5_equals D d q0 (jcs D 38) h_2 (pI D h_2 (fun v_48 h_46 => (v_48 = 0 → W_X17_statement_246 D d Q r0 (-1 : Int32) h_46) ∧ (¬ v_48 = 0 → W_X17_statement_246 D d Q r0 (6 : Int32) h_46)) (jth Q))) ∧ (¬ v_4 = (-1354815177 : Int32) → ¬ v_4 = (-1352294148 : Int32) → ¬ v_4 = (-1335458389 : Int32) → ¬ v_4 = (-1183792455 : Int32) → ¬ v_4 = (-906021636 : Int32) → ¬ v_4 = (-838846263 : Int32) → ¬ v_4 = (-259719452 : Int32) → ¬ v_4 = (3092207 : Int32) → ¬ v_4 = (93616297 : Int32) → W_X17_statement_246 D d Q r0 (-1 : Int32) h_2)) (jth Q)))
theorem w_X17_statement_30 {D : JD} {d : Nat} {Q : JO → JH → Prop} {r0 : Nat} {q0 : Nat} {h : JH} (w : W_X17_statement_30 D d Q r0 q0 h) : JW D (d + 1) mX17_statement 30 [some (vR 14 r0), none, none, none] [vR 64 q0] h Q := by
  unfold W_X17_statement_30 at w
  refine jw_astore_n (pc' := 31) (ls' := [some (vR 14 r0), none, some (vR 64 q0), none]) rfl (by decide) rfl ?_
  refine jw_iconst (pc' := 32) (x := (-1 : Int32)) rfl rfl ?_
  refine jw_istore_n (pc' := 33) (ls' := [some (vR 14 r0), none, some (vR 64 q0), some (vI (-1 : Int32))]) rfl (by decide) rfl ?_
  refine jw_aload_n (pc' := 34) rfl rfl ?_
  obtain ⟨g_1, w⟩ := w
  refine jw_cI (st := []) (sa := [vR 64 q0]) okJ5_hashCode rfl rfl rfl rfl rfl rfl (jstp_virtual (sa := []) (st := []) (k := 0) rfl rfl sJ5_hashCode okJ5_hashCode g_1 (one64.k g_1) rfl rfl) w (fun v_4 h_2 _ _ w => ?_)
  refine jw_lsw (cs := [((-1354815177 : Int32), 219), ((-1352294148 : Int32), 120), ((-1335458389 : Int32), 176), ((-1183792455 : Int32), 148), ((-906021636 : Int32), 190), ((-838846263 : Int32), 162), ((-259719452 : Int32), 234), ((3092207 : Int32), 134), ((93616297 : Int32), 204)]) (dt := 246) rfl (by decide +kernel) (by decide +kernel) ?_
  by_cases c_5 : v_4 = (-1354815177 : Int32)
  · rw [jsw_hit c_5]
    replace w := w.1 c_5
    refine jw_aload_n (pc' := 220) rfl rfl ?_
    refine jw_ldcS (pc' := 222) rfl rfl rfl rfl ?_
    refine jw_cI (st := []) (sa := [vR 64 q0, vR 51 (jcs D 39)]) okJ5_equals rfl rfl rfl rfl rfl rfl (jstp_virtual (sa := [vR 51 (jcs D 39)]) (st := []) (k := 0) rfl rfl sJ5_equals okJ5_equals g_1 (one64.k g_1) rfl rfl) w (fun v_8 h_6 _ _ w => ?_)
    refine jw_if_eq (tgt := 246) (pc' := 228) rfl rfl (fun c_9 => ?_) (fun c_9 => ?_)
    · replace w := w.1 c_9
      refine jw_gen (ls' := [some (vR 14 r0), none, none, some (vI (-1 : Int32))]) (st' := []) (And.intro (Or.inl rfl) (And.intro (Or.inl rfl) (trivial))) (trivial) ?_
      exact w_X17_statement_246 w
    · replace w := w.2 c_9
      refine jw_bipush (pc' := 230) (x := (7 : Int32)) rfl rfl ?_
      refine jw_istore_n (pc' := 231) (ls' := [some (vR 14 r0), none, some (vR 64 q0), some (vI (7 : Int32))]) rfl (by decide) rfl ?_
      refine jw_goto (pc' := 246) rfl rfl ?_
      refine jw_gen (ls' := [some (vR 14 r0), none, none, some (vI (7 : Int32))]) (st' := []) (And.intro (Or.inl rfl) (And.intro (Or.inl rfl) (trivial))) (trivial) ?_
      exact w_X17_statement_246 w
  · rw [jsw_miss c_5]
    replace w := w.2
    by_cases c_10 : v_4 = (-1352294148 : Int32)
    · rw [jsw_hit c_10]
      replace w := w.1 c_10
      refine jw_aload_n (pc' := 121) rfl rfl ?_
      refine jw_ldcS (pc' := 123) rfl rfl rfl rfl ?_
      refine jw_cI (st := []) (sa := [vR 64 q0, vR 51 (jcs D 32)]) okJ5_equals rfl rfl rfl rfl rfl rfl (jstp_virtual (sa := [vR 51 (jcs D 32)]) (st := []) (k := 0) rfl rfl sJ5_equals okJ5_equals g_1 (one64.k g_1) rfl rfl) w (fun v_13 h_11 _ _ w => ?_)
      refine jw_if_eq (tgt := 246) (pc' := 129) rfl rfl (fun c_14 => ?_) (fun c_14 => ?_)
      · replace w := w.1 c_14
        refine jw_gen (ls' := [some (vR 14 r0), none, none, some (vI (-1 : Int32))]) (st' := []) (And.intro (Or.inl rfl) (And.intro (Or.inl rfl) (trivial))) (trivial) ?_
        exact w_X17_statement_246 w
      · replace w := w.2 c_14
        refine jw_iconst (pc' := 130) (x := (0 : Int32)) rfl rfl ?_
        refine jw_istore_n (pc' := 131) (ls' := [some (vR 14 r0), none, some (vR 64 q0), some (vI (0 : Int32))]) rfl (by decide) rfl ?_
        refine jw_goto (pc' := 246) rfl rfl ?_
        refine jw_gen (ls' := [some (vR 14 r0), none, none, some (vI (0 : Int32))]) (st' := []) (And.intro (Or.inl rfl) (And.intro (Or.inl rfl) (trivial))) (trivial) ?_
        exact w_X17_statement_246 w
    · rw [jsw_miss c_10]
      replace w := w.2
      by_cases c_15 : v_4 = (-1335458389 : Int32)
      · rw [jsw_hit c_15]
        replace w := w.1 c_15
        refine jw_aload_n (pc' := 177) rfl rfl ?_
        refine jw_ldcS (pc' := 179) rfl rfl rfl rfl ?_
        refine jw_cI (st := []) (sa := [vR 64 q0, vR 51 (jcs D 36)]) okJ5_equals rfl rfl rfl rfl rfl rfl (jstp_virtual (sa := [vR 51 (jcs D 36)]) (st := []) (k := 0) rfl rfl sJ5_equals okJ5_equals g_1 (one64.k g_1) rfl rfl) w (fun v_18 h_16 _ _ w => ?_)
        refine jw_if_eq (tgt := 246) (pc' := 185) rfl rfl (fun c_19 => ?_) (fun c_19 => ?_)
        · replace w := w.1 c_19
          refine jw_gen (ls' := [some (vR 14 r0), none, none, some (vI (-1 : Int32))]) (st' := []) (And.intro (Or.inl rfl) (And.intro (Or.inl rfl) (trivial))) (trivial) ?_
          exact w_X17_statement_246 w
        · replace w := w.2 c_19
          refine jw_iconst (pc' := 186) (x := (4 : Int32)) rfl rfl ?_
          refine jw_istore_n (pc' := 187) (ls' := [some (vR 14 r0), none, some (vR 64 q0), some (vI (4 : Int32))]) rfl (by decide) rfl ?_
          refine jw_goto (pc' := 246) rfl rfl ?_
          refine jw_gen (ls' := [some (vR 14 r0), none, none, some (vI (4 : Int32))]) (st' := []) (And.intro (Or.inl rfl) (And.intro (Or.inl rfl) (trivial))) (trivial) ?_
          exact w_X17_statement_246 w
      · rw [jsw_miss c_15]
        replace w := w.2
        by_cases c_20 : v_4 = (-1183792455 : Int32)
        · rw [jsw_hit c_20]
          replace w := w.1 c_20
          refine jw_aload_n (pc' := 149) rfl rfl ?_
          refine jw_ldcS (pc' := 151) rfl rfl rfl rfl ?_
          refine jw_cI (st := []) (sa := [vR 64 q0, vR 51 (jcs D 34)]) okJ5_equals rfl rfl rfl rfl rfl rfl (jstp_virtual (sa := [vR 51 (jcs D 34)]) (st := []) (k := 0) rfl rfl sJ5_equals okJ5_equals g_1 (one64.k g_1) rfl rfl) w (fun v_23 h_21 _ _ w => ?_)
          refine jw_if_eq (tgt := 246) (pc' := 157) rfl rfl (fun c_24 => ?_) (fun c_24 => ?_)
          · replace w := w.1 c_24
            refine jw_gen (ls' := [some (vR 14 r0), none, none, some (vI (-1 : Int32))]) (st' := []) (And.intro (Or.inl rfl) (And.intro (Or.inl rfl) (trivial))) (trivial) ?_
            exact w_X17_statement_246 w
          · replace w := w.2 c_24
            refine jw_iconst (pc' := 158) (x := (2 : Int32)) rfl rfl ?_
            refine jw_istore_n (pc' := 159) (ls' := [some (vR 14 r0), none, some (vR 64 q0), some (vI (2 : Int32))]) rfl (by decide) rfl ?_
            refine jw_goto (pc' := 246) rfl rfl ?_
            refine jw_gen (ls' := [some (vR 14 r0), none, none, some (vI (2 : Int32))]) (st' := []) (And.intro (Or.inl rfl) (And.intro (Or.inl rfl) (trivial))) (trivial) ?_
            exact w_X17_statement_246 w
        · rw [jsw_miss c_20]
          replace w := w.2
          by_cases c_25 : v_4 = (-906021636 : Int32)
          · rw [jsw_hit c_25]
            replace w := w.1 c_25
            refine jw_aload_n (pc' := 191) rfl rfl ?_
            refine jw_ldcS (pc' := 193) rfl rfl rfl rfl ?_
            refine jw_cI (st := []) (sa := [vR 64 q0, vR 51 (jcs D 37)]) okJ5_equals rfl rfl rfl rfl rfl rfl (jstp_virtual (sa := [vR 51 (jcs D 37)]) (st := []) (k := 0) rfl rfl sJ5_equals okJ5_equals g_1 (one64.k g_1) rfl rfl) w (fun v_28 h_26 _ _ w => ?_)
            refine jw_if_eq (tgt := 246) (pc' := 199) rfl rfl (fun c_29 => ?_) (fun c_29 => ?_)
            · replace w := w.1 c_29
              refine jw_gen (ls' := [some (vR 14 r0), none, none, some (vI (-1 : Int32))]) (st' := []) (And.intro (Or.inl rfl) (And.intro (Or.inl rfl) (trivial))) (trivial) ?_
              exact w_X17_statement_246 w
            · replace w := w.2 c_29
              refine jw_iconst (pc' := 200) (x := (5 : Int32)) rfl rfl ?_
              refine jw_istore_n (pc' := 201) (ls' := [some (vR 14 r0), none, some (vR 64 q0), some (vI (5 : Int32))]) rfl (by decide) rfl ?_
              refine jw_goto (pc' := 246) rfl rfl ?_
              refine jw_gen (ls' := [some (vR 14 r0), none, none, some (vI (5 : Int32))]) (st' := []) (And.intro (Or.inl rfl) (And.intro (Or.inl rfl) (trivial))) (trivial) ?_
              exact w_X17_statement_246 w
          · rw [jsw_miss c_25]
            replace w := w.2
            by_cases c_30 : v_4 = (-838846263 : Int32)
            · rw [jsw_hit c_30]
              replace w := w.1 c_30
              refine jw_aload_n (pc' := 163) rfl rfl ?_
              refine jw_ldcS (pc' := 165) rfl rfl rfl rfl ?_
              refine jw_cI (st := []) (sa := [vR 64 q0, vR 51 (jcs D 35)]) okJ5_equals rfl rfl rfl rfl rfl rfl (jstp_virtual (sa := [vR 51 (jcs D 35)]) (st := []) (k := 0) rfl rfl sJ5_equals okJ5_equals g_1 (one64.k g_1) rfl rfl) w (fun v_33 h_31 _ _ w => ?_)
              refine jw_if_eq (tgt := 246) (pc' := 171) rfl rfl (fun c_34 => ?_) (fun c_34 => ?_)
              · replace w := w.1 c_34
                refine jw_gen (ls' := [some (vR 14 r0), none, none, some (vI (-1 : Int32))]) (st' := []) (And.intro (Or.inl rfl) (And.intro (Or.inl rfl) (trivial))) (trivial) ?_
                exact w_X17_statement_246 w
              · replace w := w.2 c_34
                refine jw_iconst (pc' := 172) (x := (3 : Int32)) rfl rfl ?_
                refine jw_istore_n (pc' := 173) (ls' := [some (vR 14 r0), none, some (vR 64 q0), some (vI (3 : Int32))]) rfl (by decide) rfl ?_
                refine jw_goto (pc' := 246) rfl rfl ?_
                refine jw_gen (ls' := [some (vR 14 r0), none, none, some (vI (3 : Int32))]) (st' := []) (And.intro (Or.inl rfl) (And.intro (Or.inl rfl) (trivial))) (trivial) ?_
                exact w_X17_statement_246 w
            · rw [jsw_miss c_30]
              replace w := w.2
              by_cases c_35 : v_4 = (-259719452 : Int32)
              · rw [jsw_hit c_35]
                replace w := w.1 c_35
                refine jw_aload_n (pc' := 235) rfl rfl ?_
                refine jw_ldcS (pc' := 237) rfl rfl rfl rfl ?_
                refine jw_cI (st := []) (sa := [vR 64 q0, vR 51 (jcs D 40)]) okJ5_equals rfl rfl rfl rfl rfl rfl (jstp_virtual (sa := [vR 51 (jcs D 40)]) (st := []) (k := 0) rfl rfl sJ5_equals okJ5_equals g_1 (one64.k g_1) rfl rfl) w (fun v_38 h_36 _ _ w => ?_)
                refine jw_if_eq (tgt := 246) (pc' := 243) rfl rfl (fun c_39 => ?_) (fun c_39 => ?_)
                · replace w := w.1 c_39
                  refine jw_gen (ls' := [some (vR 14 r0), none, none, some (vI (-1 : Int32))]) (st' := []) (And.intro (Or.inl rfl) (And.intro (Or.inl rfl) (trivial))) (trivial) ?_
                  exact w_X17_statement_246 w
                · replace w := w.2 c_39
                  refine jw_bipush (pc' := 245) (x := (8 : Int32)) rfl rfl ?_
                  refine jw_istore_n (pc' := 246) (ls' := [some (vR 14 r0), none, some (vR 64 q0), some (vI (8 : Int32))]) rfl (by decide) rfl ?_
                  refine jw_gen (ls' := [some (vR 14 r0), none, none, some (vI (8 : Int32))]) (st' := []) (And.intro (Or.inl rfl) (And.intro (Or.inl rfl) (trivial))) (trivial) ?_
                  exact w_X17_statement_246 w
              · rw [jsw_miss c_35]
                replace w := w.2
                by_cases c_40 : v_4 = (3092207 : Int32)
                · rw [jsw_hit c_40]
                  replace w := w.1 c_40
                  refine jw_aload_n (pc' := 135) rfl rfl ?_
                  refine jw_ldcS (pc' := 137) rfl rfl rfl rfl ?_
                  refine jw_cI (st := []) (sa := [vR 64 q0, vR 51 (jcs D 33)]) okJ5_equals rfl rfl rfl rfl rfl rfl (jstp_virtual (sa := [vR 51 (jcs D 33)]) (st := []) (k := 0) rfl rfl sJ5_equals okJ5_equals g_1 (one64.k g_1) rfl rfl) w (fun v_43 h_41 _ _ w => ?_)
                  refine jw_if_eq (tgt := 246) (pc' := 143) rfl rfl (fun c_44 => ?_) (fun c_44 => ?_)
                  · replace w := w.1 c_44
                    refine jw_gen (ls' := [some (vR 14 r0), none, none, some (vI (-1 : Int32))]) (st' := []) (And.intro (Or.inl rfl) (And.intro (Or.inl rfl) (trivial))) (trivial) ?_
                    exact w_X17_statement_246 w
                  · replace w := w.2 c_44
                    refine jw_iconst (pc' := 144) (x := (1 : Int32)) rfl rfl ?_
                    refine jw_istore_n (pc' := 145) (ls' := [some (vR 14 r0), none, some (vR 64 q0), some (vI (1 : Int32))]) rfl (by decide) rfl ?_
                    refine jw_goto (pc' := 246) rfl rfl ?_
                    refine jw_gen (ls' := [some (vR 14 r0), none, none, some (vI (1 : Int32))]) (st' := []) (And.intro (Or.inl rfl) (And.intro (Or.inl rfl) (trivial))) (trivial) ?_
                    exact w_X17_statement_246 w
                · rw [jsw_miss c_40]
                  replace w := w.2
                  by_cases c_45 : v_4 = (93616297 : Int32)
                  · rw [jsw_hit c_45]
                    replace w := w.1 c_45
                    refine jw_aload_n (pc' := 205) rfl rfl ?_
                    refine jw_ldcS (pc' := 207) rfl rfl rfl rfl ?_
                    refine jw_cI (st := []) (sa := [vR 64 q0, vR 51 (jcs D 38)]) okJ5_equals rfl rfl rfl rfl rfl rfl (jstp_virtual (sa := [vR 51 (jcs D 38)]) (st := []) (k := 0) rfl rfl sJ5_equals okJ5_equals g_1 (one64.k g_1) rfl rfl) w (fun v_48 h_46 _ _ w => ?_)
                    refine jw_if_eq (tgt := 246) (pc' := 213) rfl rfl (fun c_49 => ?_) (fun c_49 => ?_)
                    · replace w := w.1 c_49
                      refine jw_gen (ls' := [some (vR 14 r0), none, none, some (vI (-1 : Int32))]) (st' := []) (And.intro (Or.inl rfl) (And.intro (Or.inl rfl) (trivial))) (trivial) ?_
                      exact w_X17_statement_246 w
                    · replace w := w.2 c_49
                      refine jw_bipush (pc' := 215) (x := (6 : Int32)) rfl rfl ?_
                      refine jw_istore_n (pc' := 216) (ls' := [some (vR 14 r0), none, some (vR 64 q0), some (vI (6 : Int32))]) rfl (by decide) rfl ?_
                      refine jw_goto (pc' := 246) rfl rfl ?_
                      refine jw_gen (ls' := [some (vR 14 r0), none, none, some (vI (6 : Int32))]) (st' := []) (And.intro (Or.inl rfl) (And.intro (Or.inl rfl) (trivial))) (trivial) ?_
                      exact w_X17_statement_246 w
                  · rw [jsw_miss c_45]
                    replace w := w.2
                    rw [jsw_nil]
                    replace w := w c_5 c_10 c_15 c_20 c_25 c_30 c_35 c_40 c_45
                    refine jw_gen (ls' := [some (vR 14 r0), none, none, some (vI (-1 : Int32))]) (st' := []) (And.intro (Or.inl rfl) (And.intro (Or.inl rfl) (trivial))) (trivial) ?_
                    exact w_X17_statement_246 w
def W_X17_statement_0 (D : JD) (d : Nat) (Q : JO → JH → Prop) (r0 : Nat) (h : JH) : Prop :=
  r0 ≠ 0 ∧ ∀ h_2 : JH, h_2 = wfi h 81 r0 (0 : Int32) → ((jfr h_2 79 r0) ≠ 0 ∧ ((¬ (jfr h_2 86 (jfr h_2 79 r0)) = (jcs D 351) → W_X17_statement_30 D d Q r0 (jcs D 30) h_2) ∧ ((jfr h_2 86 (jfr h_2 79 r0)) = (jcs D 351) → W_X17_statement_30 D d Q r0 (jfr h_2 88 (jfr h_2 79 r0)) h_2)))
theorem w_X17_statement_0 {D : JD} {d : Nat} {Q : JO → JH → Prop} {r0 : Nat} {h : JH} (w : W_X17_statement_0 D d Q r0 h) : JW D (d + 1) mX17_statement 0 [some (vR 14 r0), none, none, none] [] h Q := by
  unfold W_X17_statement_0 at w
  refine jw_aload_n (pc' := 1) rfl rfl ?_
  refine jw_iconst (pc' := 2) (x := (0 : Int32)) rfl rfl ?_
  obtain ⟨g_1, w⟩ := w
  refine jw_putI' (pc' := 5) (F := 81) rfl rfl rfl (Or.inr rfl) (Or.inl rfl) rfl (rfl) (rfl) rfl g_1 (fun h_2 e_3 => ?_)
  replace w := w h_2 e_3
  refine jw_aload_n (pc' := 6) rfl rfl ?_
  refine jw_getR (pc' := 9) (F := 79) (t' := 15) rfl rfl rfl rfl rfl g_1 ?_
  obtain ⟨g_4, w⟩ := w
  refine jw_getR (pc' := 12) (F := 86) (t' := 53) rfl rfl rfl rfl rfl g_4 ?_
  refine jw_getsR (pc' := 15) rfl rfl rfl rfl ?_
  refine jw_acmp_ne (tgt := 28) (pc' := 18) rfl rfl (fun c_5 => ?_) (fun c_5 => ?_)
  · replace w := w.1 c_5
    refine jw_ldcS (pc' := 30) rfl rfl rfl rfl ?_
    refine jw_gen (ls' := [some (vR 14 r0), none, none, none]) (st' := [vR 64 (jcs D 30)]) (And.intro (Or.inl rfl) (trivial)) (And.intro (Or.inr ⟨_, _, _, rfl, rfl, Or.inr (Or.inl rfl)⟩) (trivial)) ?_
    exact w_X17_statement_30 w
  · replace w := w.2 c_5
    refine jw_aload_n (pc' := 19) rfl rfl ?_
    refine jw_getR (pc' := 22) (F := 79) (t' := 15) rfl rfl rfl rfl rfl g_1 ?_
    refine jw_getR (pc' := 25) (F := 88) (t' := 64) rfl rfl rfl rfl rfl g_4 ?_
    refine jw_goto (pc' := 30) rfl rfl ?_
    exact w_X17_statement_30 w
def T_X17_statement (D : JD) (d : Nat) (Q : JO → JH → Prop) (r0 : Nat) (h : JH) : Prop := W_X17_statement_0 D d Q r0 h
theorem t_X17_statement {D : JD} {d : Nat} {Q : JO → JH → Prop} {r0 : Nat} {h : JH} (w : T_X17_statement D d Q r0 h) : cX17_statement D (d + 1) r0 h Q := by
  unfold T_X17_statement at w
  unfold cX17_statement
  exact w_X17_statement_0 w
def W_X17_create_41 (D : JD) (d : Nat) (Q : JO → JH → Prop) (K41 : Nat → Nat → Nat → Int32 → JH → Prop) (r0 : Nat) (r1 : Nat) (r2 : Nat) (x3 : Int32) (h : JH) : Prop :=
  (¬ x3 = (10 : Int32) → r0 ≠ 0 ∧ (cX17_column D d r0 h (pR D h 16 (fun v_5 h_3 => r2 ≠ 0 ∧ jin x3 (jln h_3 r2) ∧ ∀ h_8 : JH, h_8 = war h_3 r2 (ixn x3) v_5 → ((jfr h_8 79 r0) ≠ 0 ∧ (cX18_takes D d (jfr h_8 79 r0) (jcs D 100) h_8 (pI D h_8 (fun v_13 h_11 => (¬ v_13 = 0 → K41 r0 r1 r2 (x3 + (1 : Int32)) h_11) ∧ (v_13 = 0 → (jfr h_11 79 r0) ≠ 0 ∧ (cX18_need D d (jfr h_11 79 r0) (jcs D 101) h_11 (pV D h_11 (fun h_16 => ∀ (r_19 : Nat) (h_20 : JH), r_19 = jsz h_16 + 1 → h_20 = nwo h_16 17 3 → (cX21_init D d r_19 r1 r2 (x3 + (1 : Int32)) h_20 (pV D h_20 (fun h_23 => Q (.inl (some (vR 57 r_19))) h_23) (jth Q)))) (jth Q))))) (jth Q))))) (jth Q)))) ∧ (x3 = (10 : Int32) → r0 ≠ 0 ∧ (cX17_broken D d r0 h (pR D h 9 (fun v_29 h_27 => v_29 ≠ 0 ∧ (Q (.inr v_29) h_27)) (jth Q))))
theorem w_X17_create_41 {D : JD} {d : Nat} {Q : JO → JH → Prop} {K41 : Nat → Nat → Nat → Int32 → JH → Prop} {r0 : Nat} {r1 : Nat} {r2 : Nat} {x3 : Int32} {h : JH} (hK41 : ∀ (r0 : Nat) (r1 : Nat) (r2 : Nat) (x3 : Int32) (h : JH), K41 r0 r1 r2 x3 h → JW D (d + 1) mX17_create 41 [some (vR 14 r0), some (vR 64 r1), some (vR 225 r2), some (vI x3)] [] h Q) (w : W_X17_create_41 D d Q K41 r0 r1 r2 x3 h) : JW D (d + 1) mX17_create 41 [some (vR 14 r0), some (vR 64 r1), some (vR 225 r2), some (vI x3)] [] h Q := by
  unfold W_X17_create_41 at w
  refine jw_iload_n (pc' := 42) rfl rfl ?_
  refine jw_bipush (pc' := 44) (x := (10 : Int32)) rfl rfl ?_
  refine jw_icmp_ne (tgt := 52) (pc' := 47) rfl rfl (fun c_1 => ?_) (fun c_1 => ?_)
  · replace w := w.1 c_1
    refine jw_aload_n (pc' := 53) rfl rfl ?_
    refine jw_iload_n (pc' := 54) rfl rfl ?_
    refine jw_aload_n (pc' := 55) rfl rfl ?_
    obtain ⟨g_2, w⟩ := w
    refine jw_cR (st := [vI x3, vR 225 r2]) (sa := [vR 14 r0]) okX17_column rfl rfl rfl rfl rfl rfl (jstp_virtual (sa := []) (st := [vI x3, vR 225 r2]) (k := 0) rfl rfl sX17_column okX17_column g_2 (one14.k g_2) rfl rfl) w (fun v_5 h_3 _ _ _ w => ?_)
    obtain ⟨g_6, w⟩ := w
    obtain ⟨g_7, w⟩ := w
    refine jw_aast' (pc' := 59) rfl rfl rfl rfl rfl rfl g_6 g_7 (fun h_8 e_9 => ?_)
    replace w := w h_8 e_9
    refine jw_iinc (pc' := 62) (y := x3 + (1 : Int32)) (ls' := [some (vR 14 r0), some (vR 64 r1), some (vR 225 r2), some (vI (x3 + (1 : Int32)))]) rfl (by decide) rfl rfl rfl ?_
    refine jw_aload_n (pc' := 63) rfl rfl ?_
    refine jw_getR (pc' := 66) (F := 79) (t' := 15) rfl rfl rfl rfl rfl g_2 ?_
    refine jw_ldcS (pc' := 68) rfl rfl rfl rfl ?_
    obtain ⟨g_10, w⟩ := w
    refine jw_cI (st := []) (sa := [vR 15 (jfr h_8 79 r0), vR 51 (jcs D 100)]) okX18_takes rfl rfl rfl rfl rfl rfl (jstp_virtual (sa := [vR 51 (jcs D 100)]) (st := []) (k := 0) rfl rfl sX18_takes okX18_takes g_10 (one15.k g_10) rfl rfl) w (fun v_13 h_11 _ _ w => ?_)
    refine jw_if_ne (tgt := 41) (pc' := 74) rfl rfl (fun c_14 => ?_) (fun c_14 => ?_)
    · replace w := w.1 c_14
      exact hK41 _ _ _ _ _ w
    · replace w := w.2 c_14
      refine jw_aload_n (pc' := 75) rfl rfl ?_
      refine jw_getR (pc' := 78) (F := 79) (t' := 15) rfl rfl rfl rfl rfl g_2 ?_
      refine jw_ldcS (pc' := 80) rfl rfl rfl rfl ?_
      obtain ⟨g_15, w⟩ := w
      refine jw_cV (st := []) (sa := [vR 15 (jfr h_11 79 r0), vR 51 (jcs D 101)]) okX18_need rfl rfl rfl rfl rfl rfl (jstp_virtual (sa := [vR 51 (jcs D 101)]) (st := []) (k := 0) rfl rfl sX18_need okX18_need g_15 (one15.k g_15) rfl rfl) w (fun h_16 _ _ w => ?_)
      refine jw_new' (pc' := 86) (k := 17) (n := 3) rfl rfl rfl rfl rfl rfl rfl (fun r_19 h_20 e_21 e_22 => ?_)
      replace w := w r_19 h_20 e_21 e_22
      refine jw_dup (pc' := 87) rfl rfl ?_
      refine jw_aload_n (pc' := 88) rfl rfl ?_
      refine jw_aload_n (pc' := 89) rfl rfl ?_
      refine jw_iload_n (pc' := 90) rfl rfl ?_
      refine jw_cV (st := [vR 17 r_19]) (sa := [vR 17 r_19, vR 64 r1, vR 225 r2, vI (x3 + (1 : Int32))]) okX21_init rfl rfl rfl rfl rfl rfl (jstp_init (sa := [vR 64 r1, vR 225 r2, vI (x3 + (1 : Int32))]) (st := [vR 17 r_19]) rfl rfl sX21_init okX21_init (lw_g (jtb_mem (c := 6) (i := 185) rfl) rfl) (jnz e_21) rfl rfl) w (fun h_23 _ _ w => ?_)
      exact jw_areturn rfl rfl rfl rfl rfl w
  · replace w := w.2 c_1
    refine jw_aload_n (pc' := 48) rfl rfl ?_
    obtain ⟨g_26, w⟩ := w
    refine jw_cR (st := []) (sa := [vR 14 r0]) okX17_broken rfl rfl rfl rfl rfl rfl (jstp_virtual (sa := []) (st := []) (k := 0) rfl rfl sX17_broken okX17_broken g_26 (one14.k g_26) rfl rfl) w (fun v_29 h_27 _ _ _ w => ?_)
    obtain ⟨g_30, w⟩ := w
    exact jw_athrow rfl rfl g_30 w
def L_X17_create_41 (D : JD) (d : Nat) (Q : JO → JH → Prop) : Nat → Nat → Nat → Nat → Int32 → JH → Prop
  | 0 => fun _ _ _ _ _ => False
  | n + 1 => fun r0 r1 r2 x3 h => W_X17_create_41 D d Q (L_X17_create_41 D d Q n) r0 r1 r2 x3 h
theorem l_X17_create_41 {D : JD} {d : Nat} {Q : JO → JH → Prop} : ∀ (n : Nat) (r0 : Nat) (r1 : Nat) (r2 : Nat) (x3 : Int32) (h : JH), L_X17_create_41 D d Q n r0 r1 r2 x3 h → JW D (d + 1) mX17_create 41 [some (vR 14 r0), some (vR 64 r1), some (vR 225 r2), some (vI x3)] [] h Q := by
  intro n
  induction n with
  | zero => intro _ _ _ _ _ w; exact w.elim
  | succ n ih => intro _ _ _ _ h w; exact w_X17_create_41 ih w
def W_X17_create_0 (D : JD) (d : Nat) (Q : JO → JH → Prop) (r0 : Nat) (h : JH) : Prop :=
  r0 ≠ 0 ∧ ((jfr h 79 r0) ≠ 0 ∧ (cX18_next D d (jfr h 79 r0) h (pV D h (fun h_3 => (jfr h_3 79 r0) ≠ 0 ∧ (cX18_needWord D d (jfr h_3 79 r0) (jcs D 41) h_3 (pV D h_3 (fun h_7 => (jfr h_7 79 r0) ≠ 0 ∧ (cX18_name D d (jfr h_7 79 r0) h_7 (pR D h_7 64 (fun v_13 h_11 => (jfr h_11 79 r0) ≠ 0 ∧ (cX18_need D d (jfr h_11 79 r0) (jcs D 91) h_11 (pV D h_11 (fun h_15 => ∀ (r_18 : Nat) (h_19 : JH), r_18 = jsz h_15 + 1 → h_19 = nwa h_15 225 10 → (∃ n, L_X17_create_41 D d Q n r0 v_13 r_18 (0 : Int32) h_19)) (jth Q)))) (jth Q)))) (jth Q)))) (jth Q))))
theorem w_X17_create_0 {D : JD} {d : Nat} {Q : JO → JH → Prop} {r0 : Nat} {h : JH} (w : W_X17_create_0 D d Q r0 h) : JW D (d + 1) mX17_create 0 [some (vR 14 r0), none, none, none] [] h Q := by
  unfold W_X17_create_0 at w
  refine jw_aload_n (pc' := 1) rfl rfl ?_
  obtain ⟨g_1, w⟩ := w
  refine jw_getR (pc' := 4) (F := 79) (t' := 15) rfl rfl rfl rfl rfl g_1 ?_
  obtain ⟨g_2, w⟩ := w
  refine jw_cV (st := []) (sa := [vR 15 (jfr h 79 r0)]) okX18_next rfl rfl rfl rfl rfl rfl (jstp_virtual (sa := []) (st := []) (k := 0) rfl rfl sX18_next okX18_next g_2 (one15.k g_2) rfl rfl) w (fun h_3 _ _ w => ?_)
  refine jw_aload_n (pc' := 8) rfl rfl ?_
  refine jw_getR (pc' := 11) (F := 79) (t' := 15) rfl rfl rfl rfl rfl g_1 ?_
  refine jw_ldcS (pc' := 13) rfl rfl rfl rfl ?_
  obtain ⟨g_6, w⟩ := w
  refine jw_cV (st := []) (sa := [vR 15 (jfr h_3 79 r0), vR 51 (jcs D 41)]) okX18_needWord rfl rfl rfl rfl rfl rfl (jstp_virtual (sa := [vR 51 (jcs D 41)]) (st := []) (k := 0) rfl rfl sX18_needWord okX18_needWord g_6 (one15.k g_6) rfl rfl) w (fun h_7 _ _ w => ?_)
  refine jw_aload_n (pc' := 17) rfl rfl ?_
  refine jw_getR (pc' := 20) (F := 79) (t' := 15) rfl rfl rfl rfl rfl g_1 ?_
  obtain ⟨g_10, w⟩ := w
  refine jw_cR (st := []) (sa := [vR 15 (jfr h_7 79 r0)]) okX18_name rfl rfl rfl rfl rfl rfl (jstp_virtual (sa := []) (st := []) (k := 0) rfl rfl sX18_name okX18_name g_10 (one15.k g_10) rfl rfl) w (fun v_13 h_11 _ _ _ w => ?_)
  refine jw_astore_n (pc' := 24) (ls' := [some (vR 14 r0), some (vR 64 v_13), none, none]) rfl (by decide) rfl ?_
  refine jw_aload_n (pc' := 25) rfl rfl ?_
  refine jw_getR (pc' := 28) (F := 79) (t' := 15) rfl rfl rfl rfl rfl g_1 ?_
  refine jw_ldcS (pc' := 30) rfl rfl rfl rfl ?_
  obtain ⟨g_14, w⟩ := w
  refine jw_cV (st := []) (sa := [vR 15 (jfr h_11 79 r0), vR 51 (jcs D 91)]) okX18_need rfl rfl rfl rfl rfl rfl (jstp_virtual (sa := [vR 51 (jcs D 91)]) (st := []) (k := 0) rfl rfl sX18_need okX18_need g_14 (one15.k g_14) rfl rfl) w (fun h_15 _ _ w => ?_)
  refine jw_bipush (pc' := 35) (x := (10 : Int32)) rfl rfl ?_
  refine jw_anew' (pc' := 38) (n := 10) (k := 225) rfl rfl rfl rfl rfl rfl rfl (jtb_mem (c := 6) (i := 132) rfl) ⟨by decide, rfl⟩ rfl (fun r_18 h_19 e_20 e_21 => ?_)
  replace w := w r_18 h_19 e_20 e_21
  refine jw_astore_n (pc' := 39) (ls' := [some (vR 14 r0), some (vR 64 v_13), some (vR 225 r_18), none]) rfl (by decide) rfl ?_
  refine jw_iconst (pc' := 40) (x := (0 : Int32)) rfl rfl ?_
  refine jw_istore_n (pc' := 41) (ls' := [some (vR 14 r0), some (vR 64 v_13), some (vR 225 r_18), some (vI (0 : Int32))]) rfl (by decide) rfl ?_
  obtain ⟨n, w⟩ := w
  exact l_X17_create_41 n _ _ _ _ _ w
def T_X17_create (D : JD) (d : Nat) (Q : JO → JH → Prop) (r0 : Nat) (h : JH) : Prop := W_X17_create_0 D d Q r0 h
theorem t_X17_create {D : JD} {d : Nat} {Q : JO → JH → Prop} {r0 : Nat} {h : JH} (w : T_X17_create D d Q r0 h) : cX17_create D (d + 1) r0 h Q := by
  unfold T_X17_create at w
  unfold cX17_create
  exact w_X17_create_0 w
def W_X17_column_89 (D : JD) (d : Nat) (Q : JO → JH → Prop) (K89 : Nat → Nat → JH → Prop) (r0 : Nat) (r3 : Nat) (h : JH) : Prop :=
  r0 ≠ 0 ∧ ((jfr h 79 r0) ≠ 0 ∧ (cX18_takesWord D d (jfr h 79 r0) (jcs D 95) h (pI D h (fun v_5 h_3 => (v_5 = 0 → (jfr h_3 79 r0) ≠ 0 ∧ (cX18_takesWord D d (jfr h_3 79 r0) (jcs D 97) h_3 (pI D h_3 (fun v_10 h_8 => (v_10 = 0 → (jfr h_8 79 r0) ≠ 0 ∧ (cX18_takesWord D d (jfr h_8 79 r0) (jcs D 98) h_8 (pI D h_8 (fun v_15 h_13 => (v_15 = 0 → Q (.inl (some (vR 16 r3))) h_13) ∧ (¬ v_15 = 0 → (jfr h_13 79 r0) ≠ 0 ∧ (cX18_needWord D d (jfr h_13 79 r0) (jcs D 99) h_13 (pV D h_13 (fun h_18 => r3 ≠ 0 ∧ ∀ h_22 : JH, h_22 = wfi h_18 94 r3 (1 : Int32) → (∀ h_24 : JH, h_24 = wfi h_22 95 r3 (1 : Int32) → (K89 r0 r3 h_24))) (jth Q))))) (jth Q)))) ∧ (¬ v_10 = 0 → r3 ≠ 0 ∧ ∀ h_27 : JH, h_27 = wfi h_8 95 r3 (1 : Int32) → (K89 r0 r3 h_27))) (jth Q)))) ∧ (¬ v_5 = 0 → (jfr h_3 79 r0) ≠ 0 ∧ (cX18_needWord D d (jfr h_3 79 r0) (jcs D 96) h_3 (pV D h_3 (fun h_30 => r3 ≠ 0 ∧ ∀ h_34 : JH, h_34 = wfi h_30 94 r3 (1 : Int32) → (K89 r0 r3 h_34)) (jth Q))))) (jth Q))))
theorem w_X17_column_89 {D : JD} {d : Nat} {Q : JO → JH → Prop} {K89 : Nat → Nat → JH → Prop} {r0 : Nat} {r3 : Nat} {h : JH} (hK89 : ∀ (r0 : Nat) (r3 : Nat) (h : JH), K89 r0 r3 h → JW D (d + 1) mX17_column 89 [some (vR 14 r0), none, none, some (vR 16 r3)] [] h Q) (w : W_X17_column_89 D d Q K89 r0 r3 h) : JW D (d + 1) mX17_column 89 [some (vR 14 r0), none, none, some (vR 16 r3)] [] h Q := by
  unfold W_X17_column_89 at w
  refine jw_aload_n (pc' := 90) rfl rfl ?_
  obtain ⟨g_1, w⟩ := w
  refine jw_getR (pc' := 93) (F := 79) (t' := 15) rfl rfl rfl rfl rfl g_1 ?_
  refine jw_ldcS (pc' := 95) rfl rfl rfl rfl ?_
  obtain ⟨g_2, w⟩ := w
  refine jw_cI (st := []) (sa := [vR 15 (jfr h 79 r0), vR 51 (jcs D 95)]) okX18_takesWord rfl rfl rfl rfl rfl rfl (jstp_virtual (sa := [vR 51 (jcs D 95)]) (st := []) (k := 0) rfl rfl sX18_takesWord okX18_takesWord g_2 (one15.k g_2) rfl rfl) w (fun v_5 h_3 _ _ w => ?_)
  refine jw_if_eq (tgt := 118) (pc' := 101) rfl rfl (fun c_6 => ?_) (fun c_6 => ?_)
  · replace w := w.1 c_6
    refine jw_aload_n (pc' := 119) rfl rfl ?_
    refine jw_getR (pc' := 122) (F := 79) (t' := 15) rfl rfl rfl rfl rfl g_1 ?_
    refine jw_ldcS (pc' := 124) rfl rfl rfl rfl ?_
    obtain ⟨g_7, w⟩ := w
    refine jw_cI (st := []) (sa := [vR 15 (jfr h_3 79 r0), vR 51 (jcs D 97)]) okX18_takesWord rfl rfl rfl rfl rfl rfl (jstp_virtual (sa := [vR 51 (jcs D 97)]) (st := []) (k := 0) rfl rfl sX18_takesWord okX18_takesWord g_7 (one15.k g_7) rfl rfl) w (fun v_10 h_8 _ _ w => ?_)
    refine jw_if_eq (tgt := 138) (pc' := 130) rfl rfl (fun c_11 => ?_) (fun c_11 => ?_)
    · replace w := w.1 c_11
      refine jw_aload_n (pc' := 139) rfl rfl ?_
      refine jw_getR (pc' := 142) (F := 79) (t' := 15) rfl rfl rfl rfl rfl g_1 ?_
      refine jw_ldcS (pc' := 144) rfl rfl rfl rfl ?_
      obtain ⟨g_12, w⟩ := w
      refine jw_cI (st := []) (sa := [vR 15 (jfr h_8 79 r0), vR 51 (jcs D 98)]) okX18_takesWord rfl rfl rfl rfl rfl rfl (jstp_virtual (sa := [vR 51 (jcs D 98)]) (st := []) (k := 0) rfl rfl sX18_takesWord okX18_takesWord g_12 (one15.k g_12) rfl rfl) w (fun v_15 h_13 _ _ w => ?_)
      refine jw_if_eq (tgt := 172) (pc' := 150) rfl rfl (fun c_16 => ?_) (fun c_16 => ?_)
      · replace w := w.1 c_16
        refine jw_aload_n (pc' := 173) rfl rfl ?_
        exact jw_areturn rfl rfl rfl rfl rfl w
      · replace w := w.2 c_16
        refine jw_aload_n (pc' := 151) rfl rfl ?_
        refine jw_getR (pc' := 154) (F := 79) (t' := 15) rfl rfl rfl rfl rfl g_1 ?_
        refine jw_ldcS (pc' := 156) rfl rfl rfl rfl ?_
        obtain ⟨g_17, w⟩ := w
        refine jw_cV (st := []) (sa := [vR 15 (jfr h_13 79 r0), vR 51 (jcs D 99)]) okX18_needWord rfl rfl rfl rfl rfl rfl (jstp_virtual (sa := [vR 51 (jcs D 99)]) (st := []) (k := 0) rfl rfl sX18_needWord okX18_needWord g_17 (one15.k g_17) rfl rfl) w (fun h_18 _ _ w => ?_)
        refine jw_aload_n (pc' := 160) rfl rfl ?_
        refine jw_iconst (pc' := 161) (x := (1 : Int32)) rfl rfl ?_
        obtain ⟨g_21, w⟩ := w
        refine jw_putI' (pc' := 164) (F := 94) rfl rfl rfl (Or.inr rfl) (Or.inl rfl) rfl (rfl) (rfl) rfl g_21 (fun h_22 e_23 => ?_)
        replace w := w h_22 e_23
        refine jw_aload_n (pc' := 165) rfl rfl ?_
        refine jw_iconst (pc' := 166) (x := (1 : Int32)) rfl rfl ?_
        refine jw_putI' (pc' := 169) (F := 95) rfl rfl rfl (Or.inr rfl) (Or.inl rfl) rfl (rfl) (rfl) rfl g_21 (fun h_24 e_25 => ?_)
        replace w := w h_24 e_25
        refine jw_goto (pc' := 89) rfl rfl ?_
        exact hK89 _ _ _ w
    · replace w := w.2 c_11
      refine jw_aload_n (pc' := 131) rfl rfl ?_
      refine jw_iconst (pc' := 132) (x := (1 : Int32)) rfl rfl ?_
      obtain ⟨g_26, w⟩ := w
      refine jw_putI' (pc' := 135) (F := 95) rfl rfl rfl (Or.inr rfl) (Or.inl rfl) rfl (rfl) (rfl) rfl g_26 (fun h_27 e_28 => ?_)
      replace w := w h_27 e_28
      refine jw_goto (pc' := 89) rfl rfl ?_
      exact hK89 _ _ _ w
  · replace w := w.2 c_6
    refine jw_aload_n (pc' := 102) rfl rfl ?_
    refine jw_getR (pc' := 105) (F := 79) (t' := 15) rfl rfl rfl rfl rfl g_1 ?_
    refine jw_ldcS (pc' := 107) rfl rfl rfl rfl ?_
    obtain ⟨g_29, w⟩ := w
    refine jw_cV (st := []) (sa := [vR 15 (jfr h_3 79 r0), vR 51 (jcs D 96)]) okX18_needWord rfl rfl rfl rfl rfl rfl (jstp_virtual (sa := [vR 51 (jcs D 96)]) (st := []) (k := 0) rfl rfl sX18_needWord okX18_needWord g_29 (one15.k g_29) rfl rfl) w (fun h_30 _ _ w => ?_)
    refine jw_aload_n (pc' := 111) rfl rfl ?_
    refine jw_iconst (pc' := 112) (x := (1 : Int32)) rfl rfl ?_
    obtain ⟨g_33, w⟩ := w
    refine jw_putI' (pc' := 115) (F := 94) rfl rfl rfl (Or.inr rfl) (Or.inl rfl) rfl (rfl) (rfl) rfl g_33 (fun h_34 e_35 => ?_)
    replace w := w h_34 e_35
    refine jw_goto (pc' := 89) rfl rfl ?_
    exact hK89 _ _ _ w
def L_X17_column_89 (D : JD) (d : Nat) (Q : JO → JH → Prop) : Nat → Nat → Nat → JH → Prop
  | 0 => fun _ _ _ => False
  | n + 1 => fun r0 r3 h => W_X17_column_89 D d Q (L_X17_column_89 D d Q n) r0 r3 h
theorem l_X17_column_89 {D : JD} {d : Nat} {Q : JO → JH → Prop} : ∀ (n : Nat) (r0 : Nat) (r3 : Nat) (h : JH), L_X17_column_89 D d Q n r0 r3 h → JW D (d + 1) mX17_column 89 [some (vR 14 r0), none, none, some (vR 16 r3)] [] h Q := by
  intro n
  induction n with
  | zero => intro _ _ _ w; exact w.elim
  | succ n ih => intro _ _ h w; exact w_X17_column_89 ih w
def W_X17_column_72 (D : JD) (d : Nat) (Q : JO → JH → Prop) (r0 : Nat) (r1 : Nat) (r2 : Nat) (h : JH) : Prop :=
  r0 ≠ 0 ∧ ((jfr h 79 r0) ≠ 0 ∧ (cX18_next D d (jfr h 79 r0) h (pV D h (fun h_3 => ∀ (r_6 : Nat) (h_7 : JH), r_6 = jsz h_3 + 1 → h_7 = nwo h_3 16 4 → (cX19_init D d r_6 r1 r2 h_7 (pV D h_7 (fun h_10 => ∃ n, L_X17_column_89 D d Q n r0 r_6 h_10) (jth Q)))) (jth Q))))
theorem w_X17_column_72 {D : JD} {d : Nat} {Q : JO → JH → Prop} {r0 : Nat} {r1 : Nat} {r2 : Nat} {h : JH} (w : W_X17_column_72 D d Q r0 r1 r2 h) : JW D (d + 1) mX17_column 72 [some (vR 14 r0), some (vR 64 r1), some (vR 52 r2), none] [] h Q := by
  unfold W_X17_column_72 at w
  refine jw_aload_n (pc' := 73) rfl rfl ?_
  obtain ⟨g_1, w⟩ := w
  refine jw_getR (pc' := 76) (F := 79) (t' := 15) rfl rfl rfl rfl rfl g_1 ?_
  obtain ⟨g_2, w⟩ := w
  refine jw_cV (st := []) (sa := [vR 15 (jfr h 79 r0)]) okX18_next rfl rfl rfl rfl rfl rfl (jstp_virtual (sa := []) (st := []) (k := 0) rfl rfl sX18_next okX18_next g_2 (one15.k g_2) rfl rfl) w (fun h_3 _ _ w => ?_)
  refine jw_new' (pc' := 82) (k := 16) (n := 4) rfl rfl rfl rfl rfl rfl rfl (fun r_6 h_7 e_8 e_9 => ?_)
  replace w := w r_6 h_7 e_8 e_9
  refine jw_dup (pc' := 83) rfl rfl ?_
  refine jw_aload_n (pc' := 84) rfl rfl ?_
  refine jw_aload_n (pc' := 85) rfl rfl ?_
  refine jw_cV (st := [vR 16 r_6]) (sa := [vR 16 r_6, vR 64 r1, vR 52 r2]) okX19_init rfl rfl rfl rfl rfl rfl (jstp_init (sa := [vR 64 r1, vR 52 r2]) (st := [vR 16 r_6]) rfl rfl sX19_init okX19_init (lw_g (jtb_mem (c := 6) (i := 150) rfl) rfl) (jnz e_8) rfl rfl) w (fun h_10 _ _ w => ?_)
  refine jw_astore_n (pc' := 89) (ls' := [some (vR 14 r0), some (vR 64 r1), some (vR 52 r2), some (vR 16 r_6)]) rfl (by decide) rfl ?_
  refine jw_gen (ls' := [some (vR 14 r0), none, none, some (vR 16 r_6)]) (st' := []) (And.intro (Or.inl rfl) (And.intro (Or.inl rfl) (trivial))) (trivial) ?_
  obtain ⟨n, w⟩ := w
  exact l_X17_column_89 n _ _ _ w
def W_X17_column_47 (D : JD) (d : Nat) (Q : JO → JH → Prop) (r0 : Nat) (r1 : Nat) (q0 : Nat) (h : JH) : Prop :=
  (¬ q0 = (jcs D 357) → W_X17_column_72 D d Q r0 r1 q0 h) ∧ (q0 = (jcs D 357) → r0 ≠ 0 ∧ ((jfr h 79 r0) ≠ 0 ∧ (cX18_isWord D d (jfr h 79 r0) (jcs D 94) h (pI D h (fun v_6 h_4 => (¬ v_6 = 0 → W_X17_column_72 D d Q r0 r1 q0 h_4) ∧ (v_6 = 0 → cX17_broken D d r0 h_4 (pR D h_4 9 (fun v_10 h_8 => v_10 ≠ 0 ∧ (Q (.inr v_10) h_8)) (jth Q)))) (jth Q)))))
theorem w_X17_column_47 {D : JD} {d : Nat} {Q : JO → JH → Prop} {r0 : Nat} {r1 : Nat} {q0 : Nat} {h : JH} (w : W_X17_column_47 D d Q r0 r1 q0 h) : JW D (d + 1) mX17_column 47 [some (vR 14 r0), some (vR 64 r1), none, none] [vR 52 q0] h Q := by
  unfold W_X17_column_47 at w
  refine jw_astore_n (pc' := 48) (ls' := [some (vR 14 r0), some (vR 64 r1), some (vR 52 q0), none]) rfl (by decide) rfl ?_
  refine jw_aload_n (pc' := 49) rfl rfl ?_
  refine jw_getsR (pc' := 52) rfl rfl rfl rfl ?_
  refine jw_acmp_ne (tgt := 72) (pc' := 55) rfl rfl (fun c_1 => ?_) (fun c_1 => ?_)
  · replace w := w.1 c_1
    exact w_X17_column_72 w
  · replace w := w.2 c_1
    refine jw_aload_n (pc' := 56) rfl rfl ?_
    obtain ⟨g_2, w⟩ := w
    refine jw_getR (pc' := 59) (F := 79) (t' := 15) rfl rfl rfl rfl rfl g_2 ?_
    refine jw_ldcS (pc' := 61) rfl rfl rfl rfl ?_
    obtain ⟨g_3, w⟩ := w
    refine jw_cI (st := []) (sa := [vR 15 (jfr h 79 r0), vR 51 (jcs D 94)]) okX18_isWord rfl rfl rfl rfl rfl rfl (jstp_virtual (sa := [vR 51 (jcs D 94)]) (st := []) (k := 0) rfl rfl sX18_isWord okX18_isWord g_3 (one15.k g_3) rfl rfl) w (fun v_6 h_4 _ _ w => ?_)
    refine jw_if_ne (tgt := 72) (pc' := 67) rfl rfl (fun c_7 => ?_) (fun c_7 => ?_)
    · replace w := w.1 c_7
      exact w_X17_column_72 w
    · replace w := w.2 c_7
      refine jw_aload_n (pc' := 68) rfl rfl ?_
      refine jw_cR (st := []) (sa := [vR 14 r0]) okX17_broken rfl rfl rfl rfl rfl rfl (jstp_virtual (sa := []) (st := []) (k := 0) rfl rfl sX17_broken okX17_broken g_2 (one14.k g_2) rfl rfl) w (fun v_10 h_8 _ _ _ w => ?_)
      obtain ⟨g_11, w⟩ := w
      exact jw_athrow rfl rfl g_11 w
def W_X17_column_0 (D : JD) (d : Nat) (Q : JO → JH → Prop) (r0 : Nat) (h : JH) : Prop :=
  r0 ≠ 0 ∧ ((jfr h 79 r0) ≠ 0 ∧ (cX18_name D d (jfr h 79 r0) h (pR D h 64 (fun v_5 h_3 => (jfr h_3 79 r0) ≠ 0 ∧ (cX18_isWord D d (jfr h_3 79 r0) (jcs D 92) h_3 (pI D h_3 (fun v_9 h_7 => (v_9 = 0 → (jfr h_7 79 r0) ≠ 0 ∧ (cX18_isWord D d (jfr h_7 79 r0) (jcs D 93) h_7 (pI D h_7 (fun v_14 h_12 => (v_14 = 0 → W_X17_column_47 D d Q r0 v_5 (jcs D 357) h_12) ∧ (¬ v_14 = 0 → W_X17_column_47 D d Q r0 v_5 (jcs D 346) h_12)) (jth Q)))) ∧ (¬ v_9 = 0 → W_X17_column_47 D d Q r0 v_5 (jcs D 356) h_7)) (jth Q)))) (jth Q))))
theorem w_X17_column_0 {D : JD} {d : Nat} {Q : JO → JH → Prop} {r0 : Nat} {h : JH} (w : W_X17_column_0 D d Q r0 h) : JW D (d + 1) mX17_column 0 [some (vR 14 r0), none, none, none] [] h Q := by
  unfold W_X17_column_0 at w
  refine jw_aload_n (pc' := 1) rfl rfl ?_
  obtain ⟨g_1, w⟩ := w
  refine jw_getR (pc' := 4) (F := 79) (t' := 15) rfl rfl rfl rfl rfl g_1 ?_
  obtain ⟨g_2, w⟩ := w
  refine jw_cR (st := []) (sa := [vR 15 (jfr h 79 r0)]) okX18_name rfl rfl rfl rfl rfl rfl (jstp_virtual (sa := []) (st := []) (k := 0) rfl rfl sX18_name okX18_name g_2 (one15.k g_2) rfl rfl) w (fun v_5 h_3 _ _ _ w => ?_)
  refine jw_astore_n (pc' := 8) (ls' := [some (vR 14 r0), some (vR 64 v_5), none, none]) rfl (by decide) rfl ?_
  refine jw_aload_n (pc' := 9) rfl rfl ?_
  refine jw_getR (pc' := 12) (F := 79) (t' := 15) rfl rfl rfl rfl rfl g_1 ?_
  refine jw_ldcS (pc' := 14) rfl rfl rfl rfl ?_
  obtain ⟨g_6, w⟩ := w
  refine jw_cI (st := []) (sa := [vR 15 (jfr h_3 79 r0), vR 51 (jcs D 92)]) okX18_isWord rfl rfl rfl rfl rfl rfl (jstp_virtual (sa := [vR 51 (jcs D 92)]) (st := []) (k := 0) rfl rfl sX18_isWord okX18_isWord g_6 (one15.k g_6) rfl rfl) w (fun v_9 h_7 _ _ w => ?_)
  refine jw_if_eq (tgt := 26) (pc' := 20) rfl rfl (fun c_10 => ?_) (fun c_10 => ?_)
  · replace w := w.1 c_10
    refine jw_aload_n (pc' := 27) rfl rfl ?_
    refine jw_getR (pc' := 30) (F := 79) (t' := 15) rfl rfl rfl rfl rfl g_1 ?_
    refine jw_ldcS (pc' := 32) rfl rfl rfl rfl ?_
    obtain ⟨g_11, w⟩ := w
    refine jw_cI (st := []) (sa := [vR 15 (jfr h_7 79 r0), vR 51 (jcs D 93)]) okX18_isWord rfl rfl rfl rfl rfl rfl (jstp_virtual (sa := [vR 51 (jcs D 93)]) (st := []) (k := 0) rfl rfl sX18_isWord okX18_isWord g_11 (one15.k g_11) rfl rfl) w (fun v_14 h_12 _ _ w => ?_)
    refine jw_if_eq (tgt := 44) (pc' := 38) rfl rfl (fun c_15 => ?_) (fun c_15 => ?_)
    · replace w := w.1 c_15
      refine jw_getsR (pc' := 47) rfl rfl rfl rfl ?_
      exact w_X17_column_47 w
    · replace w := w.2 c_15
      refine jw_getsR (pc' := 41) rfl rfl rfl rfl ?_
      refine jw_goto (pc' := 47) rfl rfl ?_
      exact w_X17_column_47 w
  · replace w := w.2 c_10
    refine jw_getsR (pc' := 23) rfl rfl rfl rfl ?_
    refine jw_goto (pc' := 47) rfl rfl ?_
    exact w_X17_column_47 w
def T_X17_column (D : JD) (d : Nat) (Q : JO → JH → Prop) (r0 : Nat) (h : JH) : Prop := W_X17_column_0 D d Q r0 h
theorem t_X17_column {D : JD} {d : Nat} {Q : JO → JH → Prop} {r0 : Nat} {h : JH} (w : T_X17_column D d Q r0 h) : cX17_column D (d + 1) r0 h Q := by
  unfold T_X17_column at w
  unfold cX17_column
  exact w_X17_column_0 w
def W_X17_insert_121 (D : JD) (d : Nat) (Q : JO → JH → Prop) (K96 : Nat → Nat → JH → Prop) (K121 : Nat → Nat → JH → Prop) (r0 : Nat) (r1 : Nat) (h : JH) : Prop :=
  r1 ≠ 0 ∧ (cX23_wide D d r1 h (pI D h (fun v_4 h_2 => (v_4 = 0 → r0 ≠ 0 ∧ (cX17_expression D d r0 h_2 (pR D h_2 55 (fun v_9 h_7 => cX23_value D d r1 v_9 h_7 (pV D h_7 (fun h_10 => (jfr h_10 79 r0) ≠ 0 ∧ (cX18_takes D d (jfr h_10 79 r0) (jcs D 100) h_10 (pI D h_10 (fun v_16 h_14 => (¬ v_16 = 0 → K121 r0 r1 h_14) ∧ (v_16 = 0 → (jfr h_14 79 r0) ≠ 0 ∧ (cX18_need D d (jfr h_14 79 r0) (jcs D 101) h_14 (pV D h_14 (fun h_19 => (jfr h_19 79 r0) ≠ 0 ∧ (cX18_takes D d (jfr h_19 79 r0) (jcs D 100) h_19 (pI D h_19 (fun v_25 h_23 => (¬ v_25 = 0 → K96 r0 r1 h_23) ∧ (v_25 = 0 → Q (.inl (some (vR 57 r1))) h_23)) (jth Q)))) (jth Q))))) (jth Q)))) (jth Q))) (jth Q)))) ∧ (¬ v_4 = 0 → r0 ≠ 0 ∧ (cX17_broken D d r0 h_2 (pR D h_2 9 (fun v_30 h_28 => v_30 ≠ 0 ∧ (Q (.inr v_30) h_28)) (jth Q))))) (jth Q)))
theorem w_X17_insert_121 {D : JD} {d : Nat} {Q : JO → JH → Prop} {K96 : Nat → Nat → JH → Prop} {K121 : Nat → Nat → JH → Prop} {r0 : Nat} {r1 : Nat} {h : JH} (hK96 : ∀ (r0 : Nat) (r1 : Nat) (h : JH), K96 r0 r1 h → JW D (d + 1) mX17_insert 96 [some (vR 14 r0), some (vR 19 r1)] [] h Q) (hK121 : ∀ (r0 : Nat) (r1 : Nat) (h : JH), K121 r0 r1 h → JW D (d + 1) mX17_insert 121 [some (vR 14 r0), some (vR 19 r1)] [] h Q) (w : W_X17_insert_121 D d Q K96 K121 r0 r1 h) : JW D (d + 1) mX17_insert 121 [some (vR 14 r0), some (vR 19 r1)] [] h Q := by
  unfold W_X17_insert_121 at w
  refine jw_aload_n (pc' := 122) rfl rfl ?_
  obtain ⟨g_1, w⟩ := w
  refine jw_cI (st := []) (sa := [vR 19 r1]) okX23_wide rfl rfl rfl rfl rfl rfl (jstp_virtual (sa := []) (st := []) (k := 0) rfl rfl sX23_wide okX23_wide g_1 (one19.k g_1) rfl rfl) w (fun v_4 h_2 _ _ w => ?_)
  refine jw_if_eq (tgt := 133) (pc' := 128) rfl rfl (fun c_5 => ?_) (fun c_5 => ?_)
  · replace w := w.1 c_5
    refine jw_aload_n (pc' := 134) rfl rfl ?_
    refine jw_aload_n (pc' := 135) rfl rfl ?_
    obtain ⟨g_6, w⟩ := w
    refine jw_cR (st := [vR 19 r1]) (sa := [vR 14 r0]) okX17_expression rfl rfl rfl rfl rfl rfl (jstp_virtual (sa := []) (st := [vR 19 r1]) (k := 0) rfl rfl sX17_expression okX17_expression g_6 (one14.k g_6) rfl rfl) w (fun v_9 h_7 _ _ _ w => ?_)
    refine jw_cV (st := []) (sa := [vR 19 r1, vR 55 v_9]) okX23_value rfl rfl rfl rfl rfl rfl (jstp_virtual (sa := [vR 55 v_9]) (st := []) (k := 0) rfl rfl sX23_value okX23_value g_1 (one19.k g_1) rfl rfl) w (fun h_10 _ _ w => ?_)
    refine jw_aload_n (pc' := 142) rfl rfl ?_
    refine jw_getR (pc' := 145) (F := 79) (t' := 15) rfl rfl rfl rfl rfl g_6 ?_
    refine jw_ldcS (pc' := 147) rfl rfl rfl rfl ?_
    obtain ⟨g_13, w⟩ := w
    refine jw_cI (st := []) (sa := [vR 15 (jfr h_10 79 r0), vR 51 (jcs D 100)]) okX18_takes rfl rfl rfl rfl rfl rfl (jstp_virtual (sa := [vR 51 (jcs D 100)]) (st := []) (k := 0) rfl rfl sX18_takes okX18_takes g_13 (one15.k g_13) rfl rfl) w (fun v_16 h_14 _ _ w => ?_)
    refine jw_if_ne (tgt := 121) (pc' := 153) rfl rfl (fun c_17 => ?_) (fun c_17 => ?_)
    · replace w := w.1 c_17
      exact hK121 _ _ _ w
    · replace w := w.2 c_17
      refine jw_aload_n (pc' := 154) rfl rfl ?_
      refine jw_getR (pc' := 157) (F := 79) (t' := 15) rfl rfl rfl rfl rfl g_6 ?_
      refine jw_ldcS (pc' := 159) rfl rfl rfl rfl ?_
      obtain ⟨g_18, w⟩ := w
      refine jw_cV (st := []) (sa := [vR 15 (jfr h_14 79 r0), vR 51 (jcs D 101)]) okX18_need rfl rfl rfl rfl rfl rfl (jstp_virtual (sa := [vR 51 (jcs D 101)]) (st := []) (k := 0) rfl rfl sX18_need okX18_need g_18 (one15.k g_18) rfl rfl) w (fun h_19 _ _ w => ?_)
      refine jw_aload_n (pc' := 163) rfl rfl ?_
      refine jw_getR (pc' := 166) (F := 79) (t' := 15) rfl rfl rfl rfl rfl g_6 ?_
      refine jw_ldcS (pc' := 168) rfl rfl rfl rfl ?_
      obtain ⟨g_22, w⟩ := w
      refine jw_cI (st := []) (sa := [vR 15 (jfr h_19 79 r0), vR 51 (jcs D 100)]) okX18_takes rfl rfl rfl rfl rfl rfl (jstp_virtual (sa := [vR 51 (jcs D 100)]) (st := []) (k := 0) rfl rfl sX18_takes okX18_takes g_22 (one15.k g_22) rfl rfl) w (fun v_25 h_23 _ _ w => ?_)
      refine jw_if_ne (tgt := 96) (pc' := 174) rfl rfl (fun c_26 => ?_) (fun c_26 => ?_)
      · replace w := w.1 c_26
        exact hK96 _ _ _ w
      · replace w := w.2 c_26
        refine jw_aload_n (pc' := 175) rfl rfl ?_
        exact jw_areturn rfl rfl rfl rfl rfl w
  · replace w := w.2 c_5
    refine jw_aload_n (pc' := 129) rfl rfl ?_
    obtain ⟨g_27, w⟩ := w
    refine jw_cR (st := []) (sa := [vR 14 r0]) okX17_broken rfl rfl rfl rfl rfl rfl (jstp_virtual (sa := []) (st := []) (k := 0) rfl rfl sX17_broken okX17_broken g_27 (one14.k g_27) rfl rfl) w (fun v_30 h_28 _ _ _ w => ?_)
    obtain ⟨g_31, w⟩ := w
    exact jw_athrow rfl rfl g_31 w
def L_X17_insert_121 (D : JD) (d : Nat) (Q : JO → JH → Prop) (K96 : Nat → Nat → JH → Prop) : Nat → Nat → Nat → JH → Prop
  | 0 => fun _ _ _ => False
  | n + 1 => fun r0 r1 h => W_X17_insert_121 D d Q K96 (L_X17_insert_121 D d Q K96 n) r0 r1 h
theorem l_X17_insert_121 {D : JD} {d : Nat} {Q : JO → JH → Prop} {K96 : Nat → Nat → JH → Prop} (hK96 : ∀ (r0 : Nat) (r1 : Nat) (h : JH), K96 r0 r1 h → JW D (d + 1) mX17_insert 96 [some (vR 14 r0), some (vR 19 r1)] [] h Q) : ∀ (n : Nat) (r0 : Nat) (r1 : Nat) (h : JH), L_X17_insert_121 D d Q K96 n r0 r1 h → JW D (d + 1) mX17_insert 121 [some (vR 14 r0), some (vR 19 r1)] [] h Q := by
  intro n
  induction n with
  | zero => intro _ _ _ w; exact w.elim
  | succ n ih => intro _ _ h w; exact w_X17_insert_121 hK96 ih w
def W_X17_insert_96 (D : JD) (d : Nat) (Q : JO → JH → Prop) (K96 : Nat → Nat → JH → Prop) (r0 : Nat) (r1 : Nat) (h : JH) : Prop :=
  r1 ≠ 0 ∧ (cX23_high D d r1 h (pI D h (fun v_4 h_2 => (v_4 = 0 → r0 ≠ 0 ∧ ((jfr h_2 79 r0) ≠ 0 ∧ (cX18_need D d (jfr h_2 79 r0) (jcs D 91) h_2 (pV D h_2 (fun h_8 => cX23_row D d r1 h_8 (pV D h_8 (fun h_11 => ∃ n, L_X17_insert_121 D d Q K96 n r0 r1 h_11) (jth Q))) (jth Q))))) ∧ (¬ v_4 = 0 → r0 ≠ 0 ∧ (cX17_broken D d r0 h_2 (pR D h_2 9 (fun v_17 h_15 => v_17 ≠ 0 ∧ (Q (.inr v_17) h_15)) (jth Q))))) (jth Q)))
theorem w_X17_insert_96 {D : JD} {d : Nat} {Q : JO → JH → Prop} {K96 : Nat → Nat → JH → Prop} {r0 : Nat} {r1 : Nat} {h : JH} (hK96 : ∀ (r0 : Nat) (r1 : Nat) (h : JH), K96 r0 r1 h → JW D (d + 1) mX17_insert 96 [some (vR 14 r0), some (vR 19 r1)] [] h Q) (w : W_X17_insert_96 D d Q K96 r0 r1 h) : JW D (d + 1) mX17_insert 96 [some (vR 14 r0), some (vR 19 r1)] [] h Q := by
  unfold W_X17_insert_96 at w
  refine jw_aload_n (pc' := 97) rfl rfl ?_
  obtain ⟨g_1, w⟩ := w
  refine jw_cI (st := []) (sa := [vR 19 r1]) okX23_high rfl rfl rfl rfl rfl rfl (jstp_virtual (sa := []) (st := []) (k := 0) rfl rfl sX23_high okX23_high g_1 (one19.k g_1) rfl rfl) w (fun v_4 h_2 _ _ w => ?_)
  refine jw_if_eq (tgt := 108) (pc' := 103) rfl rfl (fun c_5 => ?_) (fun c_5 => ?_)
  · replace w := w.1 c_5
    refine jw_aload_n (pc' := 109) rfl rfl ?_
    obtain ⟨g_6, w⟩ := w
    refine jw_getR (pc' := 112) (F := 79) (t' := 15) rfl rfl rfl rfl rfl g_6 ?_
    refine jw_ldcS (pc' := 114) rfl rfl rfl rfl ?_
    obtain ⟨g_7, w⟩ := w
    refine jw_cV (st := []) (sa := [vR 15 (jfr h_2 79 r0), vR 51 (jcs D 91)]) okX18_need rfl rfl rfl rfl rfl rfl (jstp_virtual (sa := [vR 51 (jcs D 91)]) (st := []) (k := 0) rfl rfl sX18_need okX18_need g_7 (one15.k g_7) rfl rfl) w (fun h_8 _ _ w => ?_)
    refine jw_aload_n (pc' := 118) rfl rfl ?_
    refine jw_cV (st := []) (sa := [vR 19 r1]) okX23_row rfl rfl rfl rfl rfl rfl (jstp_virtual (sa := []) (st := []) (k := 0) rfl rfl sX23_row okX23_row g_1 (one19.k g_1) rfl rfl) w (fun h_11 _ _ w => ?_)
    obtain ⟨n, w⟩ := w
    exact l_X17_insert_121 hK96 n _ _ _ w
  · replace w := w.2 c_5
    refine jw_aload_n (pc' := 104) rfl rfl ?_
    obtain ⟨g_14, w⟩ := w
    refine jw_cR (st := []) (sa := [vR 14 r0]) okX17_broken rfl rfl rfl rfl rfl rfl (jstp_virtual (sa := []) (st := []) (k := 0) rfl rfl sX17_broken okX17_broken g_14 (one14.k g_14) rfl rfl) w (fun v_17 h_15 _ _ _ w => ?_)
    obtain ⟨g_18, w⟩ := w
    exact jw_athrow rfl rfl g_18 w
def L_X17_insert_96 (D : JD) (d : Nat) (Q : JO → JH → Prop) : Nat → Nat → Nat → JH → Prop
  | 0 => fun _ _ _ => False
  | n + 1 => fun r0 r1 h => W_X17_insert_96 D d Q (L_X17_insert_96 D d Q n) r0 r1 h
theorem l_X17_insert_96 {D : JD} {d : Nat} {Q : JO → JH → Prop} : ∀ (n : Nat) (r0 : Nat) (r1 : Nat) (h : JH), L_X17_insert_96 D d Q n r0 r1 h → JW D (d + 1) mX17_insert 96 [some (vR 14 r0), some (vR 19 r1)] [] h Q := by
  intro n
  induction n with
  | zero => intro _ _ _ w; exact w.elim
  | succ n ih => intro _ _ h w; exact w_X17_insert_96 ih w
def W_X17_insert_87 (D : JD) (d : Nat) (Q : JO → JH → Prop) (r0 : Nat) (r1 : Nat) (h : JH) : Prop :=
  r0 ≠ 0 ∧ ((jfr h 79 r0) ≠ 0 ∧ (cX18_needWord D d (jfr h 79 r0) (jcs D 103) h (pV D h (fun h_3 => ∃ n, L_X17_insert_96 D d Q n r0 r1 h_3) (jth Q))))
theorem w_X17_insert_87 {D : JD} {d : Nat} {Q : JO → JH → Prop} {r0 : Nat} {r1 : Nat} {h : JH} (w : W_X17_insert_87 D d Q r0 r1 h) : JW D (d + 1) mX17_insert 87 [some (vR 14 r0), some (vR 19 r1)] [] h Q := by
  unfold W_X17_insert_87 at w
  refine jw_aload_n (pc' := 88) rfl rfl ?_
  obtain ⟨g_1, w⟩ := w
  refine jw_getR (pc' := 91) (F := 79) (t' := 15) rfl rfl rfl rfl rfl g_1 ?_
  refine jw_ldcS (pc' := 93) rfl rfl rfl rfl ?_
  obtain ⟨g_2, w⟩ := w
  refine jw_cV (st := []) (sa := [vR 15 (jfr h 79 r0), vR 51 (jcs D 103)]) okX18_needWord rfl rfl rfl rfl rfl rfl (jstp_virtual (sa := [vR 51 (jcs D 103)]) (st := []) (k := 0) rfl rfl sX18_needWord okX18_needWord g_2 (one15.k g_2) rfl rfl) w (fun h_3 _ _ w => ?_)
  obtain ⟨n, w⟩ := w
  exact l_X17_insert_96 n _ _ _ w
def W_X17_insert_43 (D : JD) (d : Nat) (Q : JO → JH → Prop) (K43 : Nat → Nat → JH → Prop) (r0 : Nat) (r1 : Nat) (h : JH) : Prop :=
  r1 ≠ 0 ∧ (cX23_named D d r1 h (pI D h (fun v_4 h_2 => (v_4 = 0 → r0 ≠ 0 ∧ ((jfr h_2 79 r0) ≠ 0 ∧ (cX18_name D d (jfr h_2 79 r0) h_2 (pR D h_2 64 (fun v_10 h_8 => cX23_name D d r1 v_10 h_8 (pV D h_8 (fun h_11 => (jfr h_11 79 r0) ≠ 0 ∧ (cX18_takes D d (jfr h_11 79 r0) (jcs D 100) h_11 (pI D h_11 (fun v_17 h_15 => (¬ v_17 = 0 → K43 r0 r1 h_15) ∧ (v_17 = 0 → (jfr h_15 79 r0) ≠ 0 ∧ (cX18_need D d (jfr h_15 79 r0) (jcs D 101) h_15 (pV D h_15 (fun h_20 => W_X17_insert_87 D d Q r0 r1 h_20) (jth Q))))) (jth Q)))) (jth Q))) (jth Q))))) ∧ (¬ v_4 = 0 → r0 ≠ 0 ∧ (cX17_broken D d r0 h_2 (pR D h_2 9 (fun v_26 h_24 => v_26 ≠ 0 ∧ (Q (.inr v_26) h_24)) (jth Q))))) (jth Q)))
theorem w_X17_insert_43 {D : JD} {d : Nat} {Q : JO → JH → Prop} {K43 : Nat → Nat → JH → Prop} {r0 : Nat} {r1 : Nat} {h : JH} (hK43 : ∀ (r0 : Nat) (r1 : Nat) (h : JH), K43 r0 r1 h → JW D (d + 1) mX17_insert 43 [some (vR 14 r0), some (vR 19 r1)] [] h Q) (w : W_X17_insert_43 D d Q K43 r0 r1 h) : JW D (d + 1) mX17_insert 43 [some (vR 14 r0), some (vR 19 r1)] [] h Q := by
  unfold W_X17_insert_43 at w
  refine jw_aload_n (pc' := 44) rfl rfl ?_
  obtain ⟨g_1, w⟩ := w
  refine jw_cI (st := []) (sa := [vR 19 r1]) okX23_named rfl rfl rfl rfl rfl rfl (jstp_virtual (sa := []) (st := []) (k := 0) rfl rfl sX23_named okX23_named g_1 (one19.k g_1) rfl rfl) w (fun v_4 h_2 _ _ w => ?_)
  refine jw_if_eq (tgt := 55) (pc' := 50) rfl rfl (fun c_5 => ?_) (fun c_5 => ?_)
  · replace w := w.1 c_5
    refine jw_aload_n (pc' := 56) rfl rfl ?_
    refine jw_aload_n (pc' := 57) rfl rfl ?_
    obtain ⟨g_6, w⟩ := w
    refine jw_getR (pc' := 60) (F := 79) (t' := 15) rfl rfl rfl rfl rfl g_6 ?_
    obtain ⟨g_7, w⟩ := w
    refine jw_cR (st := [vR 19 r1]) (sa := [vR 15 (jfr h_2 79 r0)]) okX18_name rfl rfl rfl rfl rfl rfl (jstp_virtual (sa := []) (st := [vR 19 r1]) (k := 0) rfl rfl sX18_name okX18_name g_7 (one15.k g_7) rfl rfl) w (fun v_10 h_8 _ _ _ w => ?_)
    refine jw_cV (st := []) (sa := [vR 19 r1, vR 64 v_10]) okX23_name rfl rfl rfl rfl rfl rfl (jstp_virtual (sa := [vR 64 v_10]) (st := []) (k := 0) rfl rfl sX23_name okX23_name g_1 (one19.k g_1) rfl rfl) w (fun h_11 _ _ w => ?_)
    refine jw_aload_n (pc' := 67) rfl rfl ?_
    refine jw_getR (pc' := 70) (F := 79) (t' := 15) rfl rfl rfl rfl rfl g_6 ?_
    refine jw_ldcS (pc' := 72) rfl rfl rfl rfl ?_
    obtain ⟨g_14, w⟩ := w
    refine jw_cI (st := []) (sa := [vR 15 (jfr h_11 79 r0), vR 51 (jcs D 100)]) okX18_takes rfl rfl rfl rfl rfl rfl (jstp_virtual (sa := [vR 51 (jcs D 100)]) (st := []) (k := 0) rfl rfl sX18_takes okX18_takes g_14 (one15.k g_14) rfl rfl) w (fun v_17 h_15 _ _ w => ?_)
    refine jw_if_ne (tgt := 43) (pc' := 78) rfl rfl (fun c_18 => ?_) (fun c_18 => ?_)
    · replace w := w.1 c_18
      exact hK43 _ _ _ w
    · replace w := w.2 c_18
      refine jw_aload_n (pc' := 79) rfl rfl ?_
      refine jw_getR (pc' := 82) (F := 79) (t' := 15) rfl rfl rfl rfl rfl g_6 ?_
      refine jw_ldcS (pc' := 84) rfl rfl rfl rfl ?_
      obtain ⟨g_19, w⟩ := w
      refine jw_cV (st := []) (sa := [vR 15 (jfr h_15 79 r0), vR 51 (jcs D 101)]) okX18_need rfl rfl rfl rfl rfl rfl (jstp_virtual (sa := [vR 51 (jcs D 101)]) (st := []) (k := 0) rfl rfl sX18_need okX18_need g_19 (one15.k g_19) rfl rfl) w (fun h_20 _ _ w => ?_)
      exact w_X17_insert_87 w
  · replace w := w.2 c_5
    refine jw_aload_n (pc' := 51) rfl rfl ?_
    obtain ⟨g_23, w⟩ := w
    refine jw_cR (st := []) (sa := [vR 14 r0]) okX17_broken rfl rfl rfl rfl rfl rfl (jstp_virtual (sa := []) (st := []) (k := 0) rfl rfl sX17_broken okX17_broken g_23 (one14.k g_23) rfl rfl) w (fun v_26 h_24 _ _ _ w => ?_)
    obtain ⟨g_27, w⟩ := w
    exact jw_athrow rfl rfl g_27 w
def L_X17_insert_43 (D : JD) (d : Nat) (Q : JO → JH → Prop) : Nat → Nat → Nat → JH → Prop
  | 0 => fun _ _ _ => False
  | n + 1 => fun r0 r1 h => W_X17_insert_43 D d Q (L_X17_insert_43 D d Q n) r0 r1 h
theorem l_X17_insert_43 {D : JD} {d : Nat} {Q : JO → JH → Prop} : ∀ (n : Nat) (r0 : Nat) (r1 : Nat) (h : JH), L_X17_insert_43 D d Q n r0 r1 h → JW D (d + 1) mX17_insert 43 [some (vR 14 r0), some (vR 19 r1)] [] h Q := by
  intro n
  induction n with
  | zero => intro _ _ _ w; exact w.elim
  | succ n ih => intro _ _ h w; exact w_X17_insert_43 ih w
def W_X17_insert_0 (D : JD) (d : Nat) (Q : JO → JH → Prop) (r0 : Nat) (h : JH) : Prop :=
  r0 ≠ 0 ∧ ((jfr h 79 r0) ≠ 0 ∧ (cX18_next D d (jfr h 79 r0) h (pV D h (fun h_3 => (jfr h_3 79 r0) ≠ 0 ∧ (cX18_needWord D d (jfr h_3 79 r0) (jcs D 102) h_3 (pV D h_3 (fun h_7 => ∀ (r_10 : Nat) (h_11 : JH), r_10 = jsz h_7 + 1 → h_11 = nwo h_7 19 8 → ((jfr h_11 79 r0) ≠ 0 ∧ (cX18_name D d (jfr h_11 79 r0) h_11 (pR D h_11 64 (fun v_17 h_15 => cX23_init D d r_10 v_17 h_15 (pV D h_15 (fun h_18 => (jfr h_18 79 r0) ≠ 0 ∧ (cX18_takes D d (jfr h_18 79 r0) (jcs D 91) h_18 (pI D h_18 (fun v_24 h_22 => (v_24 = 0 → W_X17_insert_87 D d Q r0 r_10 h_22) ∧ (¬ v_24 = 0 → ∃ n, L_X17_insert_43 D d Q n r0 r_10 h_22)) (jth Q)))) (jth Q))) (jth Q))))) (jth Q)))) (jth Q))))
theorem w_X17_insert_0 {D : JD} {d : Nat} {Q : JO → JH → Prop} {r0 : Nat} {h : JH} (w : W_X17_insert_0 D d Q r0 h) : JW D (d + 1) mX17_insert 0 [some (vR 14 r0), none] [] h Q := by
  unfold W_X17_insert_0 at w
  refine jw_aload_n (pc' := 1) rfl rfl ?_
  obtain ⟨g_1, w⟩ := w
  refine jw_getR (pc' := 4) (F := 79) (t' := 15) rfl rfl rfl rfl rfl g_1 ?_
  obtain ⟨g_2, w⟩ := w
  refine jw_cV (st := []) (sa := [vR 15 (jfr h 79 r0)]) okX18_next rfl rfl rfl rfl rfl rfl (jstp_virtual (sa := []) (st := []) (k := 0) rfl rfl sX18_next okX18_next g_2 (one15.k g_2) rfl rfl) w (fun h_3 _ _ w => ?_)
  refine jw_aload_n (pc' := 8) rfl rfl ?_
  refine jw_getR (pc' := 11) (F := 79) (t' := 15) rfl rfl rfl rfl rfl g_1 ?_
  refine jw_ldcS (pc' := 13) rfl rfl rfl rfl ?_
  obtain ⟨g_6, w⟩ := w
  refine jw_cV (st := []) (sa := [vR 15 (jfr h_3 79 r0), vR 51 (jcs D 102)]) okX18_needWord rfl rfl rfl rfl rfl rfl (jstp_virtual (sa := [vR 51 (jcs D 102)]) (st := []) (k := 0) rfl rfl sX18_needWord okX18_needWord g_6 (one15.k g_6) rfl rfl) w (fun h_7 _ _ w => ?_)
  refine jw_new' (pc' := 19) (k := 19) (n := 8) rfl rfl rfl rfl rfl rfl rfl (fun r_10 h_11 e_12 e_13 => ?_)
  replace w := w r_10 h_11 e_12 e_13
  refine jw_dup (pc' := 20) rfl rfl ?_
  refine jw_aload_n (pc' := 21) rfl rfl ?_
  refine jw_getR (pc' := 24) (F := 79) (t' := 15) rfl rfl rfl rfl rfl g_1 ?_
  obtain ⟨g_14, w⟩ := w
  refine jw_cR (st := [vR 19 r_10, vR 19 r_10]) (sa := [vR 15 (jfr h_11 79 r0)]) okX18_name rfl rfl rfl rfl rfl rfl (jstp_virtual (sa := []) (st := [vR 19 r_10, vR 19 r_10]) (k := 0) rfl rfl sX18_name okX18_name g_14 (one15.k g_14) rfl rfl) w (fun v_17 h_15 _ _ _ w => ?_)
  refine jw_cV (st := [vR 19 r_10]) (sa := [vR 19 r_10, vR 64 v_17]) okX23_init rfl rfl rfl rfl rfl rfl (jstp_init (sa := [vR 64 v_17]) (st := [vR 19 r_10]) rfl rfl sX23_init okX23_init (lw_g (jtb_mem (c := 6) (i := 219) rfl) rfl) (jnz e_12) rfl rfl) w (fun h_18 _ _ w => ?_)
  refine jw_astore_n (pc' := 31) (ls' := [some (vR 14 r0), some (vR 19 r_10)]) rfl (by decide) rfl ?_
  refine jw_aload_n (pc' := 32) rfl rfl ?_
  refine jw_getR (pc' := 35) (F := 79) (t' := 15) rfl rfl rfl rfl rfl g_1 ?_
  refine jw_ldcS (pc' := 37) rfl rfl rfl rfl ?_
  obtain ⟨g_21, w⟩ := w
  refine jw_cI (st := []) (sa := [vR 15 (jfr h_18 79 r0), vR 51 (jcs D 91)]) okX18_takes rfl rfl rfl rfl rfl rfl (jstp_virtual (sa := [vR 51 (jcs D 91)]) (st := []) (k := 0) rfl rfl sX18_takes okX18_takes g_21 (one15.k g_21) rfl rfl) w (fun v_24 h_22 _ _ w => ?_)
  refine jw_if_eq (tgt := 87) (pc' := 43) rfl rfl (fun c_25 => ?_) (fun c_25 => ?_)
  · replace w := w.1 c_25
    exact w_X17_insert_87 w
  · replace w := w.2 c_25
    obtain ⟨n, w⟩ := w
    exact l_X17_insert_43 n _ _ _ w
def T_X17_insert (D : JD) (d : Nat) (Q : JO → JH → Prop) (r0 : Nat) (h : JH) : Prop := W_X17_insert_0 D d Q r0 h
theorem t_X17_insert {D : JD} {d : Nat} {Q : JO → JH → Prop} {r0 : Nat} {h : JH} (w : T_X17_insert D d Q r0 h) : cX17_insert D (d + 1) r0 h Q := by
  unfold T_X17_insert at w
  unfold cX17_insert
  exact w_X17_insert_0 w
def W_X17_expression_9 (D : JD) (d : Nat) (Q : JO → JH → Prop) (K9 : Nat → Nat → JH → Prop) (r0 : Nat) (r1 : Nat) (h : JH) : Prop :=
  r0 ≠ 0 ∧ ((jfr h 79 r0) ≠ 0 ∧ (cX18_isWord D d (jfr h 79 r0) (jcs D 134) h (pI D h (fun v_5 h_3 => (v_5 = 0 → ∀ h_7 : JH, h_7 = wfi h_3 80 r0 ((jfi h_3 80 r0) - (1 : Int32)) → (Q (.inl (some (vR 55 r1))) h_7)) ∧ (¬ v_5 = 0 → cX17_operator D d r0 h_3 (pV D h_3 (fun h_9 => ∀ (r_12 : Nat) (h_13 : JH), r_12 = jsz h_9 + 1 → h_13 = nwo h_9 27 5 → (cX17_ands D d r0 h_13 (pR D h_13 55 (fun v_18 h_16 => cX33_init D d r_12 (jcs D 372) r1 v_18 h_16 (pV D h_16 (fun h_19 => K9 r0 r_12 h_19) (jth Q))) (jth Q)))) (jth Q)))) (jth Q))))
theorem w_X17_expression_9 {D : JD} {d : Nat} {Q : JO → JH → Prop} {K9 : Nat → Nat → JH → Prop} {r0 : Nat} {r1 : Nat} {h : JH} (hK9 : ∀ (r0 : Nat) (r1 : Nat) (h : JH), K9 r0 r1 h → JW D (d + 1) mX17_expression 9 [some (vR 14 r0), some (vR 55 r1)] [] h Q) (w : W_X17_expression_9 D d Q K9 r0 r1 h) : JW D (d + 1) mX17_expression 9 [some (vR 14 r0), some (vR 55 r1)] [] h Q := by
  unfold W_X17_expression_9 at w
  refine jw_aload_n (pc' := 10) rfl rfl ?_
  obtain ⟨g_1, w⟩ := w
  refine jw_getR (pc' := 13) (F := 79) (t' := 15) rfl rfl rfl rfl rfl g_1 ?_
  refine jw_ldcwS (pc' := 16) rfl rfl rfl rfl ?_
  obtain ⟨g_2, w⟩ := w
  refine jw_cI (st := []) (sa := [vR 15 (jfr h 79 r0), vR 51 (jcs D 134)]) okX18_isWord rfl rfl rfl rfl rfl rfl (jstp_virtual (sa := [vR 51 (jcs D 134)]) (st := []) (k := 0) rfl rfl sX18_isWord okX18_isWord g_2 (one15.k g_2) rfl rfl) w (fun v_5 h_3 _ _ w => ?_)
  refine jw_if_eq (tgt := 45) (pc' := 22) rfl rfl (fun c_6 => ?_) (fun c_6 => ?_)
  · replace w := w.1 c_6
    refine jw_aload_n (pc' := 46) rfl rfl ?_
    refine jw_dup (pc' := 47) rfl rfl ?_
    refine jw_getI (pc' := 50) (F := 80) rfl rfl rfl rfl g_1 ?_
    refine jw_iconst (pc' := 51) (x := (1 : Int32)) rfl rfl ?_
    refine jw_isub (pc' := 52) rfl ?_
    refine jw_putI' (pc' := 55) (F := 80) rfl rfl rfl (Or.inr rfl) (Or.inl rfl) rfl (rfl) (rfl) rfl g_1 (fun h_7 e_8 => ?_)
    replace w := w h_7 e_8
    refine jw_aload_n (pc' := 56) rfl rfl ?_
    exact jw_areturn rfl rfl rfl rfl rfl w
  · replace w := w.2 c_6
    refine jw_aload_n (pc' := 23) rfl rfl ?_
    refine jw_cV (st := []) (sa := [vR 14 r0]) okX17_operator rfl rfl rfl rfl rfl rfl (jstp_virtual (sa := []) (st := []) (k := 0) rfl rfl sX17_operator okX17_operator g_1 (one14.k g_1) rfl rfl) w (fun h_9 _ _ w => ?_)
    refine jw_new' (pc' := 29) (k := 27) (n := 5) rfl rfl rfl rfl rfl rfl rfl (fun r_12 h_13 e_14 e_15 => ?_)
    replace w := w r_12 h_13 e_14 e_15
    refine jw_dup (pc' := 30) rfl rfl ?_
    refine jw_getsR (pc' := 33) rfl rfl rfl rfl ?_
    refine jw_aload_n (pc' := 34) rfl rfl ?_
    refine jw_aload_n (pc' := 35) rfl rfl ?_
    refine jw_cR (st := [vR 55 r1, vR 54 (jcs D 372), vR 27 r_12, vR 27 r_12]) (sa := [vR 14 r0]) okX17_ands rfl rfl rfl rfl rfl rfl (jstp_virtual (sa := []) (st := [vR 55 r1, vR 54 (jcs D 372), vR 27 r_12, vR 27 r_12]) (k := 0) rfl rfl sX17_ands okX17_ands g_1 (one14.k g_1) rfl rfl) w (fun v_18 h_16 _ _ _ w => ?_)
    refine jw_cV (st := [vR 27 r_12]) (sa := [vR 27 r_12, vR 54 (jcs D 372), vR 55 r1, vR 55 v_18]) okX33_init rfl rfl rfl rfl rfl rfl (jstp_init (sa := [vR 54 (jcs D 372), vR 55 r1, vR 55 v_18]) (st := [vR 27 r_12]) rfl rfl sX33_init okX33_init (lw_g (jtb_mem (c := 8) (i := 94) rfl) rfl) (jnz e_14) rfl rfl) w (fun h_19 _ _ w => ?_)
    refine jw_astore_n (pc' := 42) (ls' := [some (vR 14 r0), some (vR 27 r_12)]) rfl (by decide) rfl ?_
    refine jw_goto (pc' := 9) rfl rfl ?_
    refine jw_gen (ls' := [some (vR 14 r0), some (vR 55 r_12)]) (st' := []) (And.intro (Or.inl rfl) (And.intro (Or.inr ⟨_, _, _, rfl, rfl, Or.inr (Or.inl rfl)⟩) (trivial))) (trivial) ?_
    exact hK9 _ _ _ w
def L_X17_expression_9 (D : JD) (d : Nat) (Q : JO → JH → Prop) : Nat → Nat → Nat → JH → Prop
  | 0 => fun _ _ _ => False
  | n + 1 => fun r0 r1 h => W_X17_expression_9 D d Q (L_X17_expression_9 D d Q n) r0 r1 h
theorem l_X17_expression_9 {D : JD} {d : Nat} {Q : JO → JH → Prop} : ∀ (n : Nat) (r0 : Nat) (r1 : Nat) (h : JH), L_X17_expression_9 D d Q n r0 r1 h → JW D (d + 1) mX17_expression 9 [some (vR 14 r0), some (vR 55 r1)] [] h Q := by
  intro n
  induction n with
  | zero => intro _ _ _ w; exact w.elim
  | succ n ih => intro _ _ h w; exact w_X17_expression_9 ih w
def W_X17_expression_0 (D : JD) (d : Nat) (Q : JO → JH → Prop) (r0 : Nat) (h : JH) : Prop :=
  r0 ≠ 0 ∧ (cX17_enter D d r0 h (pV D h (fun h_2 => cX17_ands D d r0 h_2 (pR D h_2 55 (fun v_7 h_5 => ∃ n, L_X17_expression_9 D d Q n r0 v_7 h_5) (jth Q))) (jth Q)))
theorem w_X17_expression_0 {D : JD} {d : Nat} {Q : JO → JH → Prop} {r0 : Nat} {h : JH} (w : W_X17_expression_0 D d Q r0 h) : JW D (d + 1) mX17_expression 0 [some (vR 14 r0), none] [] h Q := by
  unfold W_X17_expression_0 at w
  refine jw_aload_n (pc' := 1) rfl rfl ?_
  obtain ⟨g_1, w⟩ := w
  refine jw_cV (st := []) (sa := [vR 14 r0]) okX17_enter rfl rfl rfl rfl rfl rfl (jstp_virtual (sa := []) (st := []) (k := 0) rfl rfl sX17_enter okX17_enter g_1 (one14.k g_1) rfl rfl) w (fun h_2 _ _ w => ?_)
  refine jw_aload_n (pc' := 5) rfl rfl ?_
  refine jw_cR (st := []) (sa := [vR 14 r0]) okX17_ands rfl rfl rfl rfl rfl rfl (jstp_virtual (sa := []) (st := []) (k := 0) rfl rfl sX17_ands okX17_ands g_1 (one14.k g_1) rfl rfl) w (fun v_7 h_5 _ _ _ w => ?_)
  refine jw_astore_n (pc' := 9) (ls' := [some (vR 14 r0), some (vR 55 v_7)]) rfl (by decide) rfl ?_
  obtain ⟨n, w⟩ := w
  exact l_X17_expression_9 n _ _ _ w
def T_X17_expression (D : JD) (d : Nat) (Q : JO → JH → Prop) (r0 : Nat) (h : JH) : Prop := W_X17_expression_0 D d Q r0 h
theorem t_X17_expression {D : JD} {d : Nat} {Q : JO → JH → Prop} {r0 : Nat} {h : JH} (w : T_X17_expression D d Q r0 h) : cX17_expression D (d + 1) r0 h Q := by
  unfold T_X17_expression at w
  unfold cX17_expression
  exact w_X17_expression_0 w
def W_X17_enter_0 (D : JD) (d : Nat) (Q : JO → JH → Prop) (r0 : Nat) (h : JH) : Prop :=
  r0 ≠ 0 ∧ ((¬ (jfi h 80 r0) = (30 : Int32) → ∀ h_3 : JH, h_3 = wfi h 80 r0 ((jfi h 80 r0) + (1 : Int32)) → (Q (.inl none) h_3)) ∧ ((jfi h 80 r0) = (30 : Int32) → cX17_broken D d r0 h (pR D h 9 (fun v_7 h_5 => v_7 ≠ 0 ∧ (Q (.inr v_7) h_5)) (jth Q))))
theorem w_X17_enter_0 {D : JD} {d : Nat} {Q : JO → JH → Prop} {r0 : Nat} {h : JH} (w : W_X17_enter_0 D d Q r0 h) : JW D (d + 1) mX17_enter 0 [some (vR 14 r0)] [] h Q := by
  unfold W_X17_enter_0 at w
  refine jw_aload_n (pc' := 1) rfl rfl ?_
  obtain ⟨g_1, w⟩ := w
  refine jw_getI (pc' := 4) (F := 80) rfl rfl rfl rfl g_1 ?_
  refine jw_bipush (pc' := 6) (x := (30 : Int32)) rfl rfl ?_
  refine jw_icmp_ne (tgt := 14) (pc' := 9) rfl rfl (fun c_2 => ?_) (fun c_2 => ?_)
  · replace w := w.1 c_2
    refine jw_aload_n (pc' := 15) rfl rfl ?_
    refine jw_dup (pc' := 16) rfl rfl ?_
    refine jw_getI (pc' := 19) (F := 80) rfl rfl rfl rfl g_1 ?_
    refine jw_iconst (pc' := 20) (x := (1 : Int32)) rfl rfl ?_
    refine jw_iadd (pc' := 21) rfl ?_
    refine jw_putI' (pc' := 24) (F := 80) rfl rfl rfl (Or.inr rfl) (Or.inl rfl) rfl (rfl) (rfl) rfl g_1 (fun h_3 e_4 => ?_)
    replace w := w h_3 e_4
    exact jw_return rfl rfl w
  · replace w := w.2 c_2
    refine jw_aload_n (pc' := 10) rfl rfl ?_
    refine jw_cR (st := []) (sa := [vR 14 r0]) okX17_broken rfl rfl rfl rfl rfl rfl (jstp_virtual (sa := []) (st := []) (k := 0) rfl rfl sX17_broken okX17_broken g_1 (one14.k g_1) rfl rfl) w (fun v_7 h_5 _ _ _ w => ?_)
    obtain ⟨g_8, w⟩ := w
    exact jw_athrow rfl rfl g_8 w
def T_X17_enter (D : JD) (d : Nat) (Q : JO → JH → Prop) (r0 : Nat) (h : JH) : Prop := W_X17_enter_0 D d Q r0 h
theorem t_X17_enter {D : JD} {d : Nat} {Q : JO → JH → Prop} {r0 : Nat} {h : JH} (w : T_X17_enter D d Q r0 h) : cX17_enter D (d + 1) r0 h Q := by
  unfold T_X17_enter at w
  unfold cX17_enter
  exact w_X17_enter_0 w
def W_X17_ands_5 (D : JD) (d : Nat) (Q : JO → JH → Prop) (K5 : Nat → Nat → JH → Prop) (r0 : Nat) (r1 : Nat) (h : JH) : Prop :=
  r0 ≠ 0 ∧ ((jfr h 79 r0) ≠ 0 ∧ (cX18_isWord D d (jfr h 79 r0) (jcs D 132) h (pI D h (fun v_5 h_3 => (v_5 = 0 → Q (.inl (some (vR 55 r1))) h_3) ∧ (¬ v_5 = 0 → cX17_operator D d r0 h_3 (pV D h_3 (fun h_7 => ∀ (r_10 : Nat) (h_11 : JH), r_10 = jsz h_7 + 1 → h_11 = nwo h_7 27 5 → (cX17_nots D d r0 h_11 (pR D h_11 55 (fun v_16 h_14 => cX33_init D d r_10 (jcs D 371) r1 v_16 h_14 (pV D h_14 (fun h_17 => K5 r0 r_10 h_17) (jth Q))) (jth Q)))) (jth Q)))) (jth Q))))
theorem w_X17_ands_5 {D : JD} {d : Nat} {Q : JO → JH → Prop} {K5 : Nat → Nat → JH → Prop} {r0 : Nat} {r1 : Nat} {h : JH} (hK5 : ∀ (r0 : Nat) (r1 : Nat) (h : JH), K5 r0 r1 h → JW D (d + 1) mX17_ands 5 [some (vR 14 r0), some (vR 55 r1)] [] h Q) (w : W_X17_ands_5 D d Q K5 r0 r1 h) : JW D (d + 1) mX17_ands 5 [some (vR 14 r0), some (vR 55 r1)] [] h Q := by
  unfold W_X17_ands_5 at w
  refine jw_aload_n (pc' := 6) rfl rfl ?_
  obtain ⟨g_1, w⟩ := w
  refine jw_getR (pc' := 9) (F := 79) (t' := 15) rfl rfl rfl rfl rfl g_1 ?_
  refine jw_ldcwS (pc' := 12) rfl rfl rfl rfl ?_
  obtain ⟨g_2, w⟩ := w
  refine jw_cI (st := []) (sa := [vR 15 (jfr h 79 r0), vR 51 (jcs D 132)]) okX18_isWord rfl rfl rfl rfl rfl rfl (jstp_virtual (sa := [vR 51 (jcs D 132)]) (st := []) (k := 0) rfl rfl sX18_isWord okX18_isWord g_2 (one15.k g_2) rfl rfl) w (fun v_5 h_3 _ _ w => ?_)
  refine jw_if_eq (tgt := 41) (pc' := 18) rfl rfl (fun c_6 => ?_) (fun c_6 => ?_)
  · replace w := w.1 c_6
    refine jw_aload_n (pc' := 42) rfl rfl ?_
    exact jw_areturn rfl rfl rfl rfl rfl w
  · replace w := w.2 c_6
    refine jw_aload_n (pc' := 19) rfl rfl ?_
    refine jw_cV (st := []) (sa := [vR 14 r0]) okX17_operator rfl rfl rfl rfl rfl rfl (jstp_virtual (sa := []) (st := []) (k := 0) rfl rfl sX17_operator okX17_operator g_1 (one14.k g_1) rfl rfl) w (fun h_7 _ _ w => ?_)
    refine jw_new' (pc' := 25) (k := 27) (n := 5) rfl rfl rfl rfl rfl rfl rfl (fun r_10 h_11 e_12 e_13 => ?_)
    replace w := w r_10 h_11 e_12 e_13
    refine jw_dup (pc' := 26) rfl rfl ?_
    refine jw_getsR (pc' := 29) rfl rfl rfl rfl ?_
    refine jw_aload_n (pc' := 30) rfl rfl ?_
    refine jw_aload_n (pc' := 31) rfl rfl ?_
    refine jw_cR (st := [vR 55 r1, vR 54 (jcs D 371), vR 27 r_10, vR 27 r_10]) (sa := [vR 14 r0]) okX17_nots rfl rfl rfl rfl rfl rfl (jstp_virtual (sa := []) (st := [vR 55 r1, vR 54 (jcs D 371), vR 27 r_10, vR 27 r_10]) (k := 0) rfl rfl sX17_nots okX17_nots g_1 (one14.k g_1) rfl rfl) w (fun v_16 h_14 _ _ _ w => ?_)
    refine jw_cV (st := [vR 27 r_10]) (sa := [vR 27 r_10, vR 54 (jcs D 371), vR 55 r1, vR 55 v_16]) okX33_init rfl rfl rfl rfl rfl rfl (jstp_init (sa := [vR 54 (jcs D 371), vR 55 r1, vR 55 v_16]) (st := [vR 27 r_10]) rfl rfl sX33_init okX33_init (lw_g (jtb_mem (c := 8) (i := 94) rfl) rfl) (jnz e_12) rfl rfl) w (fun h_17 _ _ w => ?_)
    refine jw_astore_n (pc' := 38) (ls' := [some (vR 14 r0), some (vR 27 r_10)]) rfl (by decide) rfl ?_
    refine jw_goto (pc' := 5) rfl rfl ?_
    refine jw_gen (ls' := [some (vR 14 r0), some (vR 55 r_10)]) (st' := []) (And.intro (Or.inl rfl) (And.intro (Or.inr ⟨_, _, _, rfl, rfl, Or.inr (Or.inl rfl)⟩) (trivial))) (trivial) ?_
    exact hK5 _ _ _ w
def L_X17_ands_5 (D : JD) (d : Nat) (Q : JO → JH → Prop) : Nat → Nat → Nat → JH → Prop
  | 0 => fun _ _ _ => False
  | n + 1 => fun r0 r1 h => W_X17_ands_5 D d Q (L_X17_ands_5 D d Q n) r0 r1 h
theorem l_X17_ands_5 {D : JD} {d : Nat} {Q : JO → JH → Prop} : ∀ (n : Nat) (r0 : Nat) (r1 : Nat) (h : JH), L_X17_ands_5 D d Q n r0 r1 h → JW D (d + 1) mX17_ands 5 [some (vR 14 r0), some (vR 55 r1)] [] h Q := by
  intro n
  induction n with
  | zero => intro _ _ _ w; exact w.elim
  | succ n ih => intro _ _ h w; exact w_X17_ands_5 ih w
def W_X17_ands_0 (D : JD) (d : Nat) (Q : JO → JH → Prop) (r0 : Nat) (h : JH) : Prop :=
  r0 ≠ 0 ∧ (cX17_nots D d r0 h (pR D h 55 (fun v_4 h_2 => ∃ n, L_X17_ands_5 D d Q n r0 v_4 h_2) (jth Q)))
theorem w_X17_ands_0 {D : JD} {d : Nat} {Q : JO → JH → Prop} {r0 : Nat} {h : JH} (w : W_X17_ands_0 D d Q r0 h) : JW D (d + 1) mX17_ands 0 [some (vR 14 r0), none] [] h Q := by
  unfold W_X17_ands_0 at w
  refine jw_aload_n (pc' := 1) rfl rfl ?_
  obtain ⟨g_1, w⟩ := w
  refine jw_cR (st := []) (sa := [vR 14 r0]) okX17_nots rfl rfl rfl rfl rfl rfl (jstp_virtual (sa := []) (st := []) (k := 0) rfl rfl sX17_nots okX17_nots g_1 (one14.k g_1) rfl rfl) w (fun v_4 h_2 _ _ _ w => ?_)
  refine jw_astore_n (pc' := 5) (ls' := [some (vR 14 r0), some (vR 55 v_4)]) rfl (by decide) rfl ?_
  obtain ⟨n, w⟩ := w
  exact l_X17_ands_5 n _ _ _ w
def T_X17_ands (D : JD) (d : Nat) (Q : JO → JH → Prop) (r0 : Nat) (h : JH) : Prop := W_X17_ands_0 D d Q r0 h
theorem t_X17_ands {D : JD} {d : Nat} {Q : JO → JH → Prop} {r0 : Nat} {h : JH} (w : T_X17_ands D d Q r0 h) : cX17_ands D (d + 1) r0 h Q := by
  unfold T_X17_ands at w
  unfold cX17_ands
  exact w_X17_ands_0 w
def W_X17_nots_0 (D : JD) (d : Nat) (Q : JO → JH → Prop) (r0 : Nat) (h : JH) : Prop :=
  r0 ≠ 0 ∧ ((jfr h 79 r0) ≠ 0 ∧ (cX18_isWord D d (jfr h 79 r0) (jcs D 95) h (pI D h (fun v_5 h_3 => (¬ v_5 = 0 → cX17_enter D d r0 h_3 (pV D h_3 (fun h_7 => (jfr h_7 79 r0) ≠ 0 ∧ (cX18_next D d (jfr h_7 79 r0) h_7 (pV D h_7 (fun h_11 => ∀ (r_14 : Nat) (h_15 : JH), r_14 = jsz h_11 + 1 → h_15 = nwo h_11 26 4 → (cX17_nots D d r0 h_15 (pR D h_15 55 (fun v_20 h_18 => cX32_init D d r_14 (1 : Int32) v_20 h_18 (pV D h_18 (fun h_21 => ∀ h_24 : JH, h_24 = wfi h_21 80 r0 ((jfi h_21 80 r0) - (1 : Int32)) → (Q (.inl (some (vR 55 r_14))) h_24)) (jth Q))) (jth Q)))) (jth Q)))) (jth Q))) ∧ (v_5 = 0 → cX17_compared D d r0 h_3 (pR D h_3 55 (fun v_28 h_26 => Q (.inl (some (vR 55 v_28))) h_26) (jth Q)))) (jth Q))))
theorem w_X17_nots_0 {D : JD} {d : Nat} {Q : JO → JH → Prop} {r0 : Nat} {h : JH} (w : W_X17_nots_0 D d Q r0 h) : JW D (d + 1) mX17_nots 0 [some (vR 14 r0), none] [] h Q := by
  unfold W_X17_nots_0 at w
  refine jw_aload_n (pc' := 1) rfl rfl ?_
  obtain ⟨g_1, w⟩ := w
  refine jw_getR (pc' := 4) (F := 79) (t' := 15) rfl rfl rfl rfl rfl g_1 ?_
  refine jw_ldcS (pc' := 6) rfl rfl rfl rfl ?_
  obtain ⟨g_2, w⟩ := w
  refine jw_cI (st := []) (sa := [vR 15 (jfr h 79 r0), vR 51 (jcs D 95)]) okX18_isWord rfl rfl rfl rfl rfl rfl (jstp_virtual (sa := [vR 51 (jcs D 95)]) (st := []) (k := 0) rfl rfl sX18_isWord okX18_isWord g_2 (one15.k g_2) rfl rfl) w (fun v_5 h_3 _ _ w => ?_)
  refine jw_if_ne (tgt := 17) (pc' := 12) rfl rfl (fun c_6 => ?_) (fun c_6 => ?_)
  · replace w := w.1 c_6
    refine jw_aload_n (pc' := 18) rfl rfl ?_
    refine jw_cV (st := []) (sa := [vR 14 r0]) okX17_enter rfl rfl rfl rfl rfl rfl (jstp_virtual (sa := []) (st := []) (k := 0) rfl rfl sX17_enter okX17_enter g_1 (one14.k g_1) rfl rfl) w (fun h_7 _ _ w => ?_)
    refine jw_aload_n (pc' := 22) rfl rfl ?_
    refine jw_getR (pc' := 25) (F := 79) (t' := 15) rfl rfl rfl rfl rfl g_1 ?_
    obtain ⟨g_10, w⟩ := w
    refine jw_cV (st := []) (sa := [vR 15 (jfr h_7 79 r0)]) okX18_next rfl rfl rfl rfl rfl rfl (jstp_virtual (sa := []) (st := []) (k := 0) rfl rfl sX18_next okX18_next g_10 (one15.k g_10) rfl rfl) w (fun h_11 _ _ w => ?_)
    refine jw_new' (pc' := 31) (k := 26) (n := 4) rfl rfl rfl rfl rfl rfl rfl (fun r_14 h_15 e_16 e_17 => ?_)
    replace w := w r_14 h_15 e_16 e_17
    refine jw_dup (pc' := 32) rfl rfl ?_
    refine jw_iconst (pc' := 33) (x := (1 : Int32)) rfl rfl ?_
    refine jw_aload_n (pc' := 34) rfl rfl ?_
    refine jw_cR (st := [vI (1 : Int32), vR 26 r_14, vR 26 r_14]) (sa := [vR 14 r0]) okX17_nots rfl rfl rfl rfl rfl rfl (jstp_virtual (sa := []) (st := [vI (1 : Int32), vR 26 r_14, vR 26 r_14]) (k := 0) rfl rfl sX17_nots okX17_nots g_1 (one14.k g_1) rfl rfl) w (fun v_20 h_18 _ _ _ w => ?_)
    refine jw_cV (st := [vR 26 r_14]) (sa := [vR 26 r_14, vI (1 : Int32), vR 55 v_20]) okX32_init rfl rfl rfl rfl rfl rfl (jstp_init (sa := [vI (1 : Int32), vR 55 v_20]) (st := [vR 26 r_14]) rfl rfl sX32_init okX32_init (lw_g (jtb_mem (c := 8) (i := 67) rfl) rfl) (jnz e_16) rfl rfl) w (fun h_21 _ _ w => ?_)
    refine jw_astore_n (pc' := 41) (ls' := [some (vR 14 r0), some (vR 26 r_14)]) rfl (by decide) rfl ?_
    refine jw_aload_n (pc' := 42) rfl rfl ?_
    refine jw_dup (pc' := 43) rfl rfl ?_
    refine jw_getI (pc' := 46) (F := 80) rfl rfl rfl rfl g_1 ?_
    refine jw_iconst (pc' := 47) (x := (1 : Int32)) rfl rfl ?_
    refine jw_isub (pc' := 48) rfl ?_
    refine jw_putI' (pc' := 51) (F := 80) rfl rfl rfl (Or.inr rfl) (Or.inl rfl) rfl (rfl) (rfl) rfl g_1 (fun h_24 e_25 => ?_)
    replace w := w h_24 e_25
    refine jw_aload_n (pc' := 52) rfl rfl ?_
    exact jw_areturn rfl rfl rfl rfl rfl w
  · replace w := w.2 c_6
    refine jw_aload_n (pc' := 13) rfl rfl ?_
    refine jw_cR (st := []) (sa := [vR 14 r0]) okX17_compared rfl rfl rfl rfl rfl rfl (jstp_virtual (sa := []) (st := []) (k := 0) rfl rfl sX17_compared okX17_compared g_1 (one14.k g_1) rfl rfl) w (fun v_28 h_26 _ _ _ w => ?_)
    exact jw_areturn rfl rfl rfl rfl rfl w
def T_X17_nots (D : JD) (d : Nat) (Q : JO → JH → Prop) (r0 : Nat) (h : JH) : Prop := W_X17_nots_0 D d Q r0 h
theorem t_X17_nots {D : JD} {d : Nat} {Q : JO → JH → Prop} {r0 : Nat} {h : JH} (w : T_X17_nots D d Q r0 h) : cX17_nots D (d + 1) r0 h Q := by
  unfold T_X17_nots at w
  unfold cX17_nots
  exact w_X17_nots_0 w
def W_X17_compared_152 (D : JD) (d : Nat) (Q : JO → JH → Prop) (q0 : Nat) (h : JH) : Prop :=
  Q (.inl (some (vR 55 q0))) h
theorem w_X17_compared_152 {D : JD} {d : Nat} {Q : JO → JH → Prop} {q0 : Nat} {h : JH} (w : W_X17_compared_152 D d Q q0 h) : JW D (d + 1) mX17_compared 152 [none, none, none, none, none] [vR 55 q0] h Q := by
  unfold W_X17_compared_152 at w
  exact jw_areturn rfl rfl rfl rfl rfl w
def W_X17_compared_74 (D : JD) (d : Nat) (Q : JO → JH → Prop) (r0 : Nat) (r1 : Nat) (q0 : Nat) (h : JH) : Prop :=
  (q0 = 0 → r0 ≠ 0 ∧ ((jfr h 79 r0) ≠ 0 ∧ (cX18_takesWord D d (jfr h 79 r0) (jcs D 95) h (pI D h (fun v_6 h_4 => cX17_among D d r0 r1 h_4 (pR D h_4 55 (fun v_9 h_7 => (v_9 ≠ 0 → (v_6 = 0 → W_X17_compared_152 D d Q v_9 h_7) ∧ (¬ v_6 = 0 → ∀ (r_12 : Nat) (h_13 : JH), r_12 = jsz h_7 + 1 → h_13 = nwo h_7 26 4 → (cX32_init D d r_12 (1 : Int32) v_9 h_13 (pV D h_13 (fun h_16 => W_X17_compared_152 D d Q r_12 h_16) (jth Q))))) ∧ (v_9 = 0 → (v_6 = 0 → Q (.inl (some (vR 55 r1))) h_7) ∧ (¬ v_6 = 0 → cX17_broken D d r0 h_7 (pR D h_7 9 (fun v_22 h_20 => v_22 ≠ 0 ∧ (Q (.inr v_22) h_20)) (jth Q))))) (jth Q))) (jth Q))))) ∧ (q0 ≠ 0 → r0 ≠ 0 ∧ ((jfr h 79 r0) ≠ 0 ∧ (cX18_next D d (jfr h 79 r0) h (pV D h (fun h_26 => ∀ (r_29 : Nat) (h_30 : JH), r_29 = jsz h_26 + 1 → h_30 = nwo h_26 27 5 → (cX17_sums D d r0 h_30 (pR D h_30 55 (fun v_35 h_33 => cX33_init D d r_29 q0 r1 v_35 h_33 (pV D h_33 (fun h_36 => Q (.inl (some (vR 55 r_29))) h_36) (jth Q))) (jth Q)))) (jth Q)))))
theorem w_X17_compared_74 {D : JD} {d : Nat} {Q : JO → JH → Prop} {r0 : Nat} {r1 : Nat} {q0 : Nat} {h : JH} (w : W_X17_compared_74 D d Q r0 r1 q0 h) : JW D (d + 1) mX17_compared 74 [some (vR 14 r0), some (vR 55 r1), none, none, none] [vR 54 q0] h Q := by
  unfold W_X17_compared_74 at w
  refine jw_astore_n (pc' := 75) (ls' := [some (vR 14 r0), some (vR 55 r1), some (vR 54 q0), none, none]) rfl (by decide) rfl ?_
  refine jw_aload_n (pc' := 76) rfl rfl ?_
  refine jw_ifnull (tgt := 100) (pc' := 79) rfl rfl (fun c_1 => ?_) (fun c_1 => ?_)
  · replace w := w.1 c_1
    refine jw_aload_n (pc' := 101) rfl rfl ?_
    obtain ⟨g_2, w⟩ := w
    refine jw_getR (pc' := 104) (F := 79) (t' := 15) rfl rfl rfl rfl rfl g_2 ?_
    refine jw_ldcS (pc' := 106) rfl rfl rfl rfl ?_
    obtain ⟨g_3, w⟩ := w
    refine jw_cI (st := []) (sa := [vR 15 (jfr h 79 r0), vR 51 (jcs D 95)]) okX18_takesWord rfl rfl rfl rfl rfl rfl (jstp_virtual (sa := [vR 51 (jcs D 95)]) (st := []) (k := 0) rfl rfl sX18_takesWord okX18_takesWord g_3 (one15.k g_3) rfl rfl) w (fun v_6 h_4 _ _ w => ?_)
    refine jw_istore_n (pc' := 110) (ls' := [some (vR 14 r0), some (vR 55 r1), some (vR 54 q0), some (vI v_6), none]) rfl (by decide) rfl ?_
    refine jw_aload_n (pc' := 111) rfl rfl ?_
    refine jw_aload_n (pc' := 112) rfl rfl ?_
    refine jw_cR (st := []) (sa := [vR 14 r0, vR 55 r1]) okX17_among rfl rfl rfl rfl rfl rfl (jstp_virtual (sa := [vR 55 r1]) (st := []) (k := 0) rfl rfl sX17_among okX17_among g_2 (one14.k g_2) rfl rfl) w (fun v_9 h_7 _ _ _ w => ?_)
    refine jw_astore (pc' := 117) (ls' := [some (vR 14 r0), some (vR 55 r1), some (vR 54 q0), some (vI v_6), some (vR 55 v_9)]) rfl (by decide) rfl ?_
    refine jw_aload (pc' := 119) rfl rfl ?_
    refine jw_ifnonnull (tgt := 133) (pc' := 122) rfl rfl (fun c_10 => ?_) (fun c_10 => ?_)
    · replace w := w.1 c_10
      refine jw_iload_n (pc' := 134) rfl rfl ?_
      refine jw_if_eq (tgt := 150) (pc' := 137) rfl rfl (fun c_11 => ?_) (fun c_11 => ?_)
      · replace w := w.1 c_11
        refine jw_aload (pc' := 152) rfl rfl ?_
        refine jw_gen (ls' := [none, none, none, none, none]) (st' := [vR 55 v_9]) (trivial) (And.intro (Or.inl rfl) (trivial)) ?_
        exact w_X17_compared_152 w
      · replace w := w.2 c_11
        refine jw_new' (pc' := 140) (k := 26) (n := 4) rfl rfl rfl rfl rfl rfl rfl (fun r_12 h_13 e_14 e_15 => ?_)
        replace w := w r_12 h_13 e_14 e_15
        refine jw_dup (pc' := 141) rfl rfl ?_
        refine jw_iconst (pc' := 142) (x := (1 : Int32)) rfl rfl ?_
        refine jw_aload (pc' := 144) rfl rfl ?_
        refine jw_cV (st := [vR 26 r_12]) (sa := [vR 26 r_12, vI (1 : Int32), vR 55 v_9]) okX32_init rfl rfl rfl rfl rfl rfl (jstp_init (sa := [vI (1 : Int32), vR 55 v_9]) (st := [vR 26 r_12]) rfl rfl sX32_init okX32_init (lw_g (jtb_mem (c := 8) (i := 67) rfl) rfl) (jnz e_14) rfl rfl) w (fun h_16 _ _ w => ?_)
        refine jw_goto (pc' := 152) rfl rfl ?_
        refine jw_gen (ls' := [none, none, none, none, none]) (st' := [vR 55 r_12]) (trivial) (And.intro (Or.inr ⟨_, _, _, rfl, rfl, Or.inr (Or.inl rfl)⟩) (trivial)) ?_
        exact w_X17_compared_152 w
    · replace w := w.2 c_10
      refine jw_iload_n (pc' := 123) rfl rfl ?_
      refine jw_if_eq (tgt := 131) (pc' := 126) rfl rfl (fun c_19 => ?_) (fun c_19 => ?_)
      · replace w := w.1 c_19
        refine jw_aload_n (pc' := 132) rfl rfl ?_
        exact jw_areturn rfl rfl rfl rfl rfl w
      · replace w := w.2 c_19
        refine jw_aload_n (pc' := 127) rfl rfl ?_
        refine jw_cR (st := []) (sa := [vR 14 r0]) okX17_broken rfl rfl rfl rfl rfl rfl (jstp_virtual (sa := []) (st := []) (k := 0) rfl rfl sX17_broken okX17_broken g_2 (one14.k g_2) rfl rfl) w (fun v_22 h_20 _ _ _ w => ?_)
        obtain ⟨g_23, w⟩ := w
        exact jw_athrow rfl rfl g_23 w
  · replace w := w.2 c_1
    refine jw_aload_n (pc' := 80) rfl rfl ?_
    obtain ⟨g_24, w⟩ := w
    refine jw_getR (pc' := 83) (F := 79) (t' := 15) rfl rfl rfl rfl rfl g_24 ?_
    obtain ⟨g_25, w⟩ := w
    refine jw_cV (st := []) (sa := [vR 15 (jfr h 79 r0)]) okX18_next rfl rfl rfl rfl rfl rfl (jstp_virtual (sa := []) (st := []) (k := 0) rfl rfl sX18_next okX18_next g_25 (one15.k g_25) rfl rfl) w (fun h_26 _ _ w => ?_)
    refine jw_new' (pc' := 89) (k := 27) (n := 5) rfl rfl rfl rfl rfl rfl rfl (fun r_29 h_30 e_31 e_32 => ?_)
    replace w := w r_29 h_30 e_31 e_32
    refine jw_dup (pc' := 90) rfl rfl ?_
    refine jw_aload_n (pc' := 91) rfl rfl ?_
    refine jw_aload_n (pc' := 92) rfl rfl ?_
    refine jw_aload_n (pc' := 93) rfl rfl ?_
    refine jw_cR (st := [vR 55 r1, vR 54 q0, vR 27 r_29, vR 27 r_29]) (sa := [vR 14 r0]) okX17_sums rfl rfl rfl rfl rfl rfl (jstp_virtual (sa := []) (st := [vR 55 r1, vR 54 q0, vR 27 r_29, vR 27 r_29]) (k := 0) rfl rfl sX17_sums okX17_sums g_24 (one14.k g_24) rfl rfl) w (fun v_35 h_33 _ _ _ w => ?_)
    refine jw_cV (st := [vR 27 r_29]) (sa := [vR 27 r_29, vR 54 q0, vR 55 r1, vR 55 v_35]) okX33_init rfl rfl rfl rfl rfl rfl (jstp_init (sa := [vR 54 q0, vR 55 r1, vR 55 v_35]) (st := [vR 27 r_29]) rfl rfl sX33_init okX33_init (lw_g (jtb_mem (c := 8) (i := 94) rfl) rfl) (jnz e_31) rfl rfl) w (fun h_36 _ _ w => ?_)
    exact jw_areturn rfl rfl rfl rfl rfl w
def W_X17_compared_0 (D : JD) (d : Nat) (Q : JO → JH → Prop) (r0 : Nat) (h : JH) : Prop :=
  r0 ≠ 0 ∧ (cX17_sums D d r0 h (pR D h 55 (fun v_4 h_2 => (jfr h_2 79 r0) ≠ 0 ∧ (cX18_takesWord D d (jfr h_2 79 r0) (jcs D 123) h_2 (pI D h_2 (fun v_8 h_6 => (v_8 = 0 → (jfr h_6 79 r0) ≠ 0 ∧ (((jfr h_6 86 (jfr h_6 79 r0)) = (jcs D 355) → cX17_comparison D d (jfr h_6 88 (jfr h_6 79 r0)) h_6 (pR D h_6 54 (fun v_14 h_12 => W_X17_compared_74 D d Q r0 v_4 v_14 h_12) (jth Q))) ∧ (¬ (jfr h_6 86 (jfr h_6 79 r0)) = (jcs D 355) → W_X17_compared_74 D d Q r0 v_4 0 h_6))) ∧ (¬ v_8 = 0 → (jfr h_6 79 r0) ≠ 0 ∧ (cX18_takesWord D d (jfr h_6 79 r0) (jcs D 95) h_6 (pI D h_6 (fun v_18 h_16 => (jfr h_16 79 r0) ≠ 0 ∧ (cX18_needWord D d (jfr h_16 79 r0) (jcs D 96) h_16 (pV D h_16 (fun h_20 => ∀ (r_23 : Nat) (h_24 : JH), r_23 = jsz h_20 + 1 → h_24 = nwo h_20 28 4 → (cX34_init D d r_23 v_4 v_18 h_24 (pV D h_24 (fun h_27 => Q (.inl (some (vR 55 r_23))) h_27) (jth Q)))) (jth Q)))) (jth Q))))) (jth Q)))) (jth Q)))
theorem w_X17_compared_0 {D : JD} {d : Nat} {Q : JO → JH → Prop} {r0 : Nat} {h : JH} (w : W_X17_compared_0 D d Q r0 h) : JW D (d + 1) mX17_compared 0 [some (vR 14 r0), none, none, none, none] [] h Q := by
  unfold W_X17_compared_0 at w
  refine jw_aload_n (pc' := 1) rfl rfl ?_
  obtain ⟨g_1, w⟩ := w
  refine jw_cR (st := []) (sa := [vR 14 r0]) okX17_sums rfl rfl rfl rfl rfl rfl (jstp_virtual (sa := []) (st := []) (k := 0) rfl rfl sX17_sums okX17_sums g_1 (one14.k g_1) rfl rfl) w (fun v_4 h_2 _ _ _ w => ?_)
  refine jw_astore_n (pc' := 5) (ls' := [some (vR 14 r0), some (vR 55 v_4), none, none, none]) rfl (by decide) rfl ?_
  refine jw_aload_n (pc' := 6) rfl rfl ?_
  refine jw_getR (pc' := 9) (F := 79) (t' := 15) rfl rfl rfl rfl rfl g_1 ?_
  refine jw_ldcwS (pc' := 12) rfl rfl rfl rfl ?_
  obtain ⟨g_5, w⟩ := w
  refine jw_cI (st := []) (sa := [vR 15 (jfr h_2 79 r0), vR 51 (jcs D 123)]) okX18_takesWord rfl rfl rfl rfl rfl rfl (jstp_virtual (sa := [vR 51 (jcs D 123)]) (st := []) (k := 0) rfl rfl sX18_takesWord okX18_takesWord g_5 (one15.k g_5) rfl rfl) w (fun v_8 h_6 _ _ w => ?_)
  refine jw_if_eq (tgt := 47) (pc' := 18) rfl rfl (fun c_9 => ?_) (fun c_9 => ?_)
  · replace w := w.1 c_9
    refine jw_aload_n (pc' := 48) rfl rfl ?_
    refine jw_getR (pc' := 51) (F := 79) (t' := 15) rfl rfl rfl rfl rfl g_1 ?_
    obtain ⟨g_10, w⟩ := w
    refine jw_getR (pc' := 54) (F := 86) (t' := 53) rfl rfl rfl rfl rfl g_10 ?_
    refine jw_getsR (pc' := 57) rfl rfl rfl rfl ?_
    refine jw_acmp_eq (tgt := 64) (pc' := 60) rfl rfl (fun c_11 => ?_) (fun c_11 => ?_)
    · replace w := w.1 c_11
      refine jw_aload_n (pc' := 65) rfl rfl ?_
      refine jw_getR (pc' := 68) (F := 79) (t' := 15) rfl rfl rfl rfl rfl g_1 ?_
      refine jw_getR (pc' := 71) (F := 88) (t' := 64) rfl rfl rfl rfl rfl g_10 ?_
      refine jw_cR (st := []) (sa := [vR 64 (jfr h_6 88 (jfr h_6 79 r0))]) okX17_comparison rfl rfl rfl rfl rfl rfl (jstp_static (sa := [vR 64 (jfr h_6 88 (jfr h_6 79 r0))]) (st := []) rfl rfl sX17_comparison okX17_comparison rfl rfl) w (fun v_14 h_12 _ _ _ w => ?_)
      exact w_X17_compared_74 w
    · replace w := w.2 c_11
      refine jw_null (pc' := 61) (t := 54) rfl ?_
      refine jw_goto (pc' := 74) rfl rfl ?_
      exact w_X17_compared_74 w
  · replace w := w.2 c_9
    refine jw_aload_n (pc' := 19) rfl rfl ?_
    refine jw_getR (pc' := 22) (F := 79) (t' := 15) rfl rfl rfl rfl rfl g_1 ?_
    refine jw_ldcS (pc' := 24) rfl rfl rfl rfl ?_
    obtain ⟨g_15, w⟩ := w
    refine jw_cI (st := []) (sa := [vR 15 (jfr h_6 79 r0), vR 51 (jcs D 95)]) okX18_takesWord rfl rfl rfl rfl rfl rfl (jstp_virtual (sa := [vR 51 (jcs D 95)]) (st := []) (k := 0) rfl rfl sX18_takesWord okX18_takesWord g_15 (one15.k g_15) rfl rfl) w (fun v_18 h_16 _ _ w => ?_)
    refine jw_istore_n (pc' := 28) (ls' := [some (vR 14 r0), some (vR 55 v_4), some (vI v_18), none, none]) rfl (by decide) rfl ?_
    refine jw_aload_n (pc' := 29) rfl rfl ?_
    refine jw_getR (pc' := 32) (F := 79) (t' := 15) rfl rfl rfl rfl rfl g_1 ?_
    refine jw_ldcS (pc' := 34) rfl rfl rfl rfl ?_
    obtain ⟨g_19, w⟩ := w
    refine jw_cV (st := []) (sa := [vR 15 (jfr h_16 79 r0), vR 51 (jcs D 96)]) okX18_needWord rfl rfl rfl rfl rfl rfl (jstp_virtual (sa := [vR 51 (jcs D 96)]) (st := []) (k := 0) rfl rfl sX18_needWord okX18_needWord g_19 (one15.k g_19) rfl rfl) w (fun h_20 _ _ w => ?_)
    refine jw_new' (pc' := 40) (k := 28) (n := 4) rfl rfl rfl rfl rfl rfl rfl (fun r_23 h_24 e_25 e_26 => ?_)
    replace w := w r_23 h_24 e_25 e_26
    refine jw_dup (pc' := 41) rfl rfl ?_
    refine jw_aload_n (pc' := 42) rfl rfl ?_
    refine jw_iload_n (pc' := 43) rfl rfl ?_
    refine jw_cV (st := [vR 28 r_23]) (sa := [vR 28 r_23, vR 55 v_4, vI v_18]) okX34_init rfl rfl rfl rfl rfl rfl (jstp_init (sa := [vR 55 v_4, vI v_18]) (st := [vR 28 r_23]) rfl rfl sX34_init okX34_init (lw_g (jtb_mem (c := 8) (i := 121) rfl) rfl) (jnz e_25) rfl rfl) w (fun h_27 _ _ w => ?_)
    exact jw_areturn rfl rfl rfl rfl rfl w
def T_X17_compared (D : JD) (d : Nat) (Q : JO → JH → Prop) (r0 : Nat) (h : JH) : Prop := W_X17_compared_0 D d Q r0 h
theorem t_X17_compared {D : JD} {d : Nat} {Q : JO → JH → Prop} {r0 : Nat} {h : JH} (w : T_X17_compared D d Q r0 h) : cX17_compared D (d + 1) r0 h Q := by
  unfold T_X17_compared at w
  unfold cX17_compared
  exact w_X17_compared_0 w
def W_X17_sums_63 (D : JD) (d : Nat) (Q : JO → JH → Prop) (K5 : Nat → Nat → JH → Prop) (r0 : Nat) (r1 : Nat) (q0 : Nat) (h : JH) : Prop :=
  (q0 ≠ 0 → r0 ≠ 0 ∧ (cX17_operator D d r0 h (pV D h (fun h_3 => ∀ (r_6 : Nat) (h_7 : JH), r_6 = jsz h_3 + 1 → h_7 = nwo h_3 27 5 → (cX17_products D d r0 h_7 (pR D h_7 55 (fun v_12 h_10 => cX33_init D d r_6 q0 r1 v_12 h_10 (pV D h_10 (fun h_13 => K5 r0 r_6 h_13) (jth Q))) (jth Q)))) (jth Q)))) ∧ (q0 = 0 → Q (.inl (some (vR 55 r1))) h)
theorem w_X17_sums_63 {D : JD} {d : Nat} {Q : JO → JH → Prop} {K5 : Nat → Nat → JH → Prop} {r0 : Nat} {r1 : Nat} {q0 : Nat} {h : JH} (hK5 : ∀ (r0 : Nat) (r1 : Nat) (h : JH), K5 r0 r1 h → JW D (d + 1) mX17_sums 5 [some (vR 14 r0), some (vR 55 r1), none] [] h Q) (w : W_X17_sums_63 D d Q K5 r0 r1 q0 h) : JW D (d + 1) mX17_sums 63 [some (vR 14 r0), some (vR 55 r1), none] [vR 54 q0] h Q := by
  unfold W_X17_sums_63 at w
  refine jw_astore_n (pc' := 64) (ls' := [some (vR 14 r0), some (vR 55 r1), some (vR 54 q0)]) rfl (by decide) rfl ?_
  refine jw_aload_n (pc' := 65) rfl rfl ?_
  refine jw_ifnonnull (tgt := 70) (pc' := 68) rfl rfl (fun c_1 => ?_) (fun c_1 => ?_)
  · replace w := w.1 c_1
    refine jw_aload_n (pc' := 71) rfl rfl ?_
    obtain ⟨g_2, w⟩ := w
    refine jw_cV (st := []) (sa := [vR 14 r0]) okX17_operator rfl rfl rfl rfl rfl rfl (jstp_virtual (sa := []) (st := []) (k := 0) rfl rfl sX17_operator okX17_operator g_2 (one14.k g_2) rfl rfl) w (fun h_3 _ _ w => ?_)
    refine jw_new' (pc' := 77) (k := 27) (n := 5) rfl rfl rfl rfl rfl rfl rfl (fun r_6 h_7 e_8 e_9 => ?_)
    replace w := w r_6 h_7 e_8 e_9
    refine jw_dup (pc' := 78) rfl rfl ?_
    refine jw_aload_n (pc' := 79) rfl rfl ?_
    refine jw_aload_n (pc' := 80) rfl rfl ?_
    refine jw_aload_n (pc' := 81) rfl rfl ?_
    refine jw_cR (st := [vR 55 r1, vR 54 q0, vR 27 r_6, vR 27 r_6]) (sa := [vR 14 r0]) okX17_products rfl rfl rfl rfl rfl rfl (jstp_virtual (sa := []) (st := [vR 55 r1, vR 54 q0, vR 27 r_6, vR 27 r_6]) (k := 0) rfl rfl sX17_products okX17_products g_2 (one14.k g_2) rfl rfl) w (fun v_12 h_10 _ _ _ w => ?_)
    refine jw_cV (st := [vR 27 r_6]) (sa := [vR 27 r_6, vR 54 q0, vR 55 r1, vR 55 v_12]) okX33_init rfl rfl rfl rfl rfl rfl (jstp_init (sa := [vR 54 q0, vR 55 r1, vR 55 v_12]) (st := [vR 27 r_6]) rfl rfl sX33_init okX33_init (lw_g (jtb_mem (c := 8) (i := 94) rfl) rfl) (jnz e_8) rfl rfl) w (fun h_13 _ _ w => ?_)
    refine jw_astore_n (pc' := 88) (ls' := [some (vR 14 r0), some (vR 27 r_6), some (vR 54 q0)]) rfl (by decide) rfl ?_
    refine jw_goto (pc' := 5) rfl rfl ?_
    refine jw_gen (ls' := [some (vR 14 r0), some (vR 55 r_6), none]) (st' := []) (And.intro (Or.inl rfl) (And.intro (Or.inr ⟨_, _, _, rfl, rfl, Or.inr (Or.inl rfl)⟩) (trivial))) (trivial) ?_
    exact hK5 _ _ _ w
  · replace w := w.2 c_1
    refine jw_aload_n (pc' := 69) rfl rfl ?_
    exact jw_areturn rfl rfl rfl rfl rfl w
def W_X17_sums_5 (D : JD) (d : Nat) (Q : JO → JH → Prop) (K5 : Nat → Nat → JH → Prop) (r0 : Nat) (r1 : Nat) (h : JH) : Prop :=
  r0 ≠ 0 ∧ ((jfr h 79 r0) ≠ 0 ∧ (cX18_is D d (jfr h 79 r0) (jcs D 121) h (pI D h (fun v_5 h_3 => (v_5 = 0 → (jfr h_3 79 r0) ≠ 0 ∧ (cX18_is D d (jfr h_3 79 r0) (jcs D 104) h_3 (pI D h_3 (fun v_10 h_8 => (v_10 = 0 → (jfr h_8 79 r0) ≠ 0 ∧ (cX18_is D d (jfr h_8 79 r0) (jcs D 122) h_8 (pI D h_8 (fun v_15 h_13 => (v_15 = 0 → W_X17_sums_63 D d Q K5 r0 r1 0 h_13) ∧ (¬ v_15 = 0 → W_X17_sums_63 D d Q K5 r0 r1 (jcs D 363) h_13)) (jth Q)))) ∧ (¬ v_10 = 0 → W_X17_sums_63 D d Q K5 r0 r1 (jcs D 362) h_8)) (jth Q)))) ∧ (¬ v_5 = 0 → W_X17_sums_63 D d Q K5 r0 r1 (jcs D 361) h_3)) (jth Q))))
theorem w_X17_sums_5 {D : JD} {d : Nat} {Q : JO → JH → Prop} {K5 : Nat → Nat → JH → Prop} {r0 : Nat} {r1 : Nat} {h : JH} (hK5 : ∀ (r0 : Nat) (r1 : Nat) (h : JH), K5 r0 r1 h → JW D (d + 1) mX17_sums 5 [some (vR 14 r0), some (vR 55 r1), none] [] h Q) (w : W_X17_sums_5 D d Q K5 r0 r1 h) : JW D (d + 1) mX17_sums 5 [some (vR 14 r0), some (vR 55 r1), none] [] h Q := by
  unfold W_X17_sums_5 at w
  refine jw_aload_n (pc' := 6) rfl rfl ?_
  obtain ⟨g_1, w⟩ := w
  refine jw_getR (pc' := 9) (F := 79) (t' := 15) rfl rfl rfl rfl rfl g_1 ?_
  refine jw_ldcwS (pc' := 12) rfl rfl rfl rfl ?_
  obtain ⟨g_2, w⟩ := w
  refine jw_cI (st := []) (sa := [vR 15 (jfr h 79 r0), vR 51 (jcs D 121)]) okX18_is rfl rfl rfl rfl rfl rfl (jstp_virtual (sa := [vR 51 (jcs D 121)]) (st := []) (k := 0) rfl rfl sX18_is okX18_is g_2 (one15.k g_2) rfl rfl) w (fun v_5 h_3 _ _ w => ?_)
  refine jw_if_eq (tgt := 24) (pc' := 18) rfl rfl (fun c_6 => ?_) (fun c_6 => ?_)
  · replace w := w.1 c_6
    refine jw_aload_n (pc' := 25) rfl rfl ?_
    refine jw_getR (pc' := 28) (F := 79) (t' := 15) rfl rfl rfl rfl rfl g_1 ?_
    refine jw_ldcwS (pc' := 31) rfl rfl rfl rfl ?_
    obtain ⟨g_7, w⟩ := w
    refine jw_cI (st := []) (sa := [vR 15 (jfr h_3 79 r0), vR 51 (jcs D 104)]) okX18_is rfl rfl rfl rfl rfl rfl (jstp_virtual (sa := [vR 51 (jcs D 104)]) (st := []) (k := 0) rfl rfl sX18_is okX18_is g_7 (one15.k g_7) rfl rfl) w (fun v_10 h_8 _ _ w => ?_)
    refine jw_if_eq (tgt := 43) (pc' := 37) rfl rfl (fun c_11 => ?_) (fun c_11 => ?_)
    · replace w := w.1 c_11
      refine jw_aload_n (pc' := 44) rfl rfl ?_
      refine jw_getR (pc' := 47) (F := 79) (t' := 15) rfl rfl rfl rfl rfl g_1 ?_
      refine jw_ldcwS (pc' := 50) rfl rfl rfl rfl ?_
      obtain ⟨g_12, w⟩ := w
      refine jw_cI (st := []) (sa := [vR 15 (jfr h_8 79 r0), vR 51 (jcs D 122)]) okX18_is rfl rfl rfl rfl rfl rfl (jstp_virtual (sa := [vR 51 (jcs D 122)]) (st := []) (k := 0) rfl rfl sX18_is okX18_is g_12 (one15.k g_12) rfl rfl) w (fun v_15 h_13 _ _ w => ?_)
      refine jw_if_eq (tgt := 62) (pc' := 56) rfl rfl (fun c_16 => ?_) (fun c_16 => ?_)
      · replace w := w.1 c_16
        refine jw_null (pc' := 63) (t := 54) rfl ?_
        exact w_X17_sums_63 hK5 w
      · replace w := w.2 c_16
        refine jw_getsR (pc' := 59) rfl rfl rfl rfl ?_
        refine jw_goto (pc' := 63) rfl rfl ?_
        exact w_X17_sums_63 hK5 w
    · replace w := w.2 c_11
      refine jw_getsR (pc' := 40) rfl rfl rfl rfl ?_
      refine jw_goto (pc' := 63) rfl rfl ?_
      exact w_X17_sums_63 hK5 w
  · replace w := w.2 c_6
    refine jw_getsR (pc' := 21) rfl rfl rfl rfl ?_
    refine jw_goto (pc' := 63) rfl rfl ?_
    exact w_X17_sums_63 hK5 w
def L_X17_sums_5 (D : JD) (d : Nat) (Q : JO → JH → Prop) : Nat → Nat → Nat → JH → Prop
  | 0 => fun _ _ _ => False
  | n + 1 => fun r0 r1 h => W_X17_sums_5 D d Q (L_X17_sums_5 D d Q n) r0 r1 h
theorem l_X17_sums_5 {D : JD} {d : Nat} {Q : JO → JH → Prop} : ∀ (n : Nat) (r0 : Nat) (r1 : Nat) (h : JH), L_X17_sums_5 D d Q n r0 r1 h → JW D (d + 1) mX17_sums 5 [some (vR 14 r0), some (vR 55 r1), none] [] h Q := by
  intro n
  induction n with
  | zero => intro _ _ _ w; exact w.elim
  | succ n ih => intro _ _ h w; exact w_X17_sums_5 ih w
def W_X17_sums_0 (D : JD) (d : Nat) (Q : JO → JH → Prop) (r0 : Nat) (h : JH) : Prop :=
  r0 ≠ 0 ∧ (cX17_products D d r0 h (pR D h 55 (fun v_4 h_2 => ∃ n, L_X17_sums_5 D d Q n r0 v_4 h_2) (jth Q)))
theorem w_X17_sums_0 {D : JD} {d : Nat} {Q : JO → JH → Prop} {r0 : Nat} {h : JH} (w : W_X17_sums_0 D d Q r0 h) : JW D (d + 1) mX17_sums 0 [some (vR 14 r0), none, none] [] h Q := by
  unfold W_X17_sums_0 at w
  refine jw_aload_n (pc' := 1) rfl rfl ?_
  obtain ⟨g_1, w⟩ := w
  refine jw_cR (st := []) (sa := [vR 14 r0]) okX17_products rfl rfl rfl rfl rfl rfl (jstp_virtual (sa := []) (st := []) (k := 0) rfl rfl sX17_products okX17_products g_1 (one14.k g_1) rfl rfl) w (fun v_4 h_2 _ _ _ w => ?_)
  refine jw_astore_n (pc' := 5) (ls' := [some (vR 14 r0), some (vR 55 v_4), none]) rfl (by decide) rfl ?_
  obtain ⟨n, w⟩ := w
  exact l_X17_sums_5 n _ _ _ w
def T_X17_sums (D : JD) (d : Nat) (Q : JO → JH → Prop) (r0 : Nat) (h : JH) : Prop := W_X17_sums_0 D d Q r0 h
theorem t_X17_sums {D : JD} {d : Nat} {Q : JO → JH → Prop} {r0 : Nat} {h : JH} (w : T_X17_sums D d Q r0 h) : cX17_sums D (d + 1) r0 h Q := by
  unfold T_X17_sums at w
  unfold cX17_sums
  exact w_X17_sums_0 w
def W_X17_products_63 (D : JD) (d : Nat) (Q : JO → JH → Prop) (K5 : Nat → Nat → JH → Prop) (r0 : Nat) (r1 : Nat) (q0 : Nat) (h : JH) : Prop :=
  (q0 ≠ 0 → r0 ≠ 0 ∧ (cX17_operator D d r0 h (pV D h (fun h_3 => ∀ (r_6 : Nat) (h_7 : JH), r_6 = jsz h_3 + 1 → h_7 = nwo h_3 27 5 → (cX17_minus D d r0 h_7 (pR D h_7 55 (fun v_12 h_10 => cX33_init D d r_6 q0 r1 v_12 h_10 (pV D h_10 (fun h_13 => K5 r0 r_6 h_13) (jth Q))) (jth Q)))) (jth Q)))) ∧ (q0 = 0 → Q (.inl (some (vR 55 r1))) h)
theorem w_X17_products_63 {D : JD} {d : Nat} {Q : JO → JH → Prop} {K5 : Nat → Nat → JH → Prop} {r0 : Nat} {r1 : Nat} {q0 : Nat} {h : JH} (hK5 : ∀ (r0 : Nat) (r1 : Nat) (h : JH), K5 r0 r1 h → JW D (d + 1) mX17_products 5 [some (vR 14 r0), some (vR 55 r1), none] [] h Q) (w : W_X17_products_63 D d Q K5 r0 r1 q0 h) : JW D (d + 1) mX17_products 63 [some (vR 14 r0), some (vR 55 r1), none] [vR 54 q0] h Q := by
  unfold W_X17_products_63 at w
  refine jw_astore_n (pc' := 64) (ls' := [some (vR 14 r0), some (vR 55 r1), some (vR 54 q0)]) rfl (by decide) rfl ?_
  refine jw_aload_n (pc' := 65) rfl rfl ?_
  refine jw_ifnonnull (tgt := 70) (pc' := 68) rfl rfl (fun c_1 => ?_) (fun c_1 => ?_)
  · replace w := w.1 c_1
    refine jw_aload_n (pc' := 71) rfl rfl ?_
    obtain ⟨g_2, w⟩ := w
    refine jw_cV (st := []) (sa := [vR 14 r0]) okX17_operator rfl rfl rfl rfl rfl rfl (jstp_virtual (sa := []) (st := []) (k := 0) rfl rfl sX17_operator okX17_operator g_2 (one14.k g_2) rfl rfl) w (fun h_3 _ _ w => ?_)
    refine jw_new' (pc' := 77) (k := 27) (n := 5) rfl rfl rfl rfl rfl rfl rfl (fun r_6 h_7 e_8 e_9 => ?_)
    replace w := w r_6 h_7 e_8 e_9
    refine jw_dup (pc' := 78) rfl rfl ?_
    refine jw_aload_n (pc' := 79) rfl rfl ?_
    refine jw_aload_n (pc' := 80) rfl rfl ?_
    refine jw_aload_n (pc' := 81) rfl rfl ?_
    refine jw_cR (st := [vR 55 r1, vR 54 q0, vR 27 r_6, vR 27 r_6]) (sa := [vR 14 r0]) okX17_minus rfl rfl rfl rfl rfl rfl (jstp_virtual (sa := []) (st := [vR 55 r1, vR 54 q0, vR 27 r_6, vR 27 r_6]) (k := 0) rfl rfl sX17_minus okX17_minus g_2 (one14.k g_2) rfl rfl) w (fun v_12 h_10 _ _ _ w => ?_)
    refine jw_cV (st := [vR 27 r_6]) (sa := [vR 27 r_6, vR 54 q0, vR 55 r1, vR 55 v_12]) okX33_init rfl rfl rfl rfl rfl rfl (jstp_init (sa := [vR 54 q0, vR 55 r1, vR 55 v_12]) (st := [vR 27 r_6]) rfl rfl sX33_init okX33_init (lw_g (jtb_mem (c := 8) (i := 94) rfl) rfl) (jnz e_8) rfl rfl) w (fun h_13 _ _ w => ?_)
    refine jw_astore_n (pc' := 88) (ls' := [some (vR 14 r0), some (vR 27 r_6), some (vR 54 q0)]) rfl (by decide) rfl ?_
    refine jw_goto (pc' := 5) rfl rfl ?_
    refine jw_gen (ls' := [some (vR 14 r0), some (vR 55 r_6), none]) (st' := []) (And.intro (Or.inl rfl) (And.intro (Or.inr ⟨_, _, _, rfl, rfl, Or.inr (Or.inl rfl)⟩) (trivial))) (trivial) ?_
    exact hK5 _ _ _ w
  · replace w := w.2 c_1
    refine jw_aload_n (pc' := 69) rfl rfl ?_
    exact jw_areturn rfl rfl rfl rfl rfl w
def W_X17_products_5 (D : JD) (d : Nat) (Q : JO → JH → Prop) (K5 : Nat → Nat → JH → Prop) (r0 : Nat) (r1 : Nat) (h : JH) : Prop :=
  r0 ≠ 0 ∧ ((jfr h 79 r0) ≠ 0 ∧ (cX18_is D d (jfr h 79 r0) (jcs D 113) h (pI D h (fun v_5 h_3 => (v_5 = 0 → (jfr h_3 79 r0) ≠ 0 ∧ (cX18_is D d (jfr h_3 79 r0) (jcs D 119) h_3 (pI D h_3 (fun v_10 h_8 => (v_10 = 0 → (jfr h_8 79 r0) ≠ 0 ∧ (cX18_is D d (jfr h_8 79 r0) (jcs D 120) h_8 (pI D h_8 (fun v_15 h_13 => (v_15 = 0 → W_X17_products_63 D d Q K5 r0 r1 0 h_13) ∧ (¬ v_15 = 0 → W_X17_products_63 D d Q K5 r0 r1 (jcs D 360) h_13)) (jth Q)))) ∧ (¬ v_10 = 0 → W_X17_products_63 D d Q K5 r0 r1 (jcs D 359) h_8)) (jth Q)))) ∧ (¬ v_5 = 0 → W_X17_products_63 D d Q K5 r0 r1 (jcs D 358) h_3)) (jth Q))))
theorem w_X17_products_5 {D : JD} {d : Nat} {Q : JO → JH → Prop} {K5 : Nat → Nat → JH → Prop} {r0 : Nat} {r1 : Nat} {h : JH} (hK5 : ∀ (r0 : Nat) (r1 : Nat) (h : JH), K5 r0 r1 h → JW D (d + 1) mX17_products 5 [some (vR 14 r0), some (vR 55 r1), none] [] h Q) (w : W_X17_products_5 D d Q K5 r0 r1 h) : JW D (d + 1) mX17_products 5 [some (vR 14 r0), some (vR 55 r1), none] [] h Q := by
  unfold W_X17_products_5 at w
  refine jw_aload_n (pc' := 6) rfl rfl ?_
  obtain ⟨g_1, w⟩ := w
  refine jw_getR (pc' := 9) (F := 79) (t' := 15) rfl rfl rfl rfl rfl g_1 ?_
  refine jw_ldcwS (pc' := 12) rfl rfl rfl rfl ?_
  obtain ⟨g_2, w⟩ := w
  refine jw_cI (st := []) (sa := [vR 15 (jfr h 79 r0), vR 51 (jcs D 113)]) okX18_is rfl rfl rfl rfl rfl rfl (jstp_virtual (sa := [vR 51 (jcs D 113)]) (st := []) (k := 0) rfl rfl sX18_is okX18_is g_2 (one15.k g_2) rfl rfl) w (fun v_5 h_3 _ _ w => ?_)
  refine jw_if_eq (tgt := 24) (pc' := 18) rfl rfl (fun c_6 => ?_) (fun c_6 => ?_)
  · replace w := w.1 c_6
    refine jw_aload_n (pc' := 25) rfl rfl ?_
    refine jw_getR (pc' := 28) (F := 79) (t' := 15) rfl rfl rfl rfl rfl g_1 ?_
    refine jw_ldcwS (pc' := 31) rfl rfl rfl rfl ?_
    obtain ⟨g_7, w⟩ := w
    refine jw_cI (st := []) (sa := [vR 15 (jfr h_3 79 r0), vR 51 (jcs D 119)]) okX18_is rfl rfl rfl rfl rfl rfl (jstp_virtual (sa := [vR 51 (jcs D 119)]) (st := []) (k := 0) rfl rfl sX18_is okX18_is g_7 (one15.k g_7) rfl rfl) w (fun v_10 h_8 _ _ w => ?_)
    refine jw_if_eq (tgt := 43) (pc' := 37) rfl rfl (fun c_11 => ?_) (fun c_11 => ?_)
    · replace w := w.1 c_11
      refine jw_aload_n (pc' := 44) rfl rfl ?_
      refine jw_getR (pc' := 47) (F := 79) (t' := 15) rfl rfl rfl rfl rfl g_1 ?_
      refine jw_ldcwS (pc' := 50) rfl rfl rfl rfl ?_
      obtain ⟨g_12, w⟩ := w
      refine jw_cI (st := []) (sa := [vR 15 (jfr h_8 79 r0), vR 51 (jcs D 120)]) okX18_is rfl rfl rfl rfl rfl rfl (jstp_virtual (sa := [vR 51 (jcs D 120)]) (st := []) (k := 0) rfl rfl sX18_is okX18_is g_12 (one15.k g_12) rfl rfl) w (fun v_15 h_13 _ _ w => ?_)
      refine jw_if_eq (tgt := 62) (pc' := 56) rfl rfl (fun c_16 => ?_) (fun c_16 => ?_)
      · replace w := w.1 c_16
        refine jw_null (pc' := 63) (t := 54) rfl ?_
        exact w_X17_products_63 hK5 w
      · replace w := w.2 c_16
        refine jw_getsR (pc' := 59) rfl rfl rfl rfl ?_
        refine jw_goto (pc' := 63) rfl rfl ?_
        exact w_X17_products_63 hK5 w
    · replace w := w.2 c_11
      refine jw_getsR (pc' := 40) rfl rfl rfl rfl ?_
      refine jw_goto (pc' := 63) rfl rfl ?_
      exact w_X17_products_63 hK5 w
  · replace w := w.2 c_6
    refine jw_getsR (pc' := 21) rfl rfl rfl rfl ?_
    refine jw_goto (pc' := 63) rfl rfl ?_
    exact w_X17_products_63 hK5 w
def L_X17_products_5 (D : JD) (d : Nat) (Q : JO → JH → Prop) : Nat → Nat → Nat → JH → Prop
  | 0 => fun _ _ _ => False
  | n + 1 => fun r0 r1 h => W_X17_products_5 D d Q (L_X17_products_5 D d Q n) r0 r1 h
theorem l_X17_products_5 {D : JD} {d : Nat} {Q : JO → JH → Prop} : ∀ (n : Nat) (r0 : Nat) (r1 : Nat) (h : JH), L_X17_products_5 D d Q n r0 r1 h → JW D (d + 1) mX17_products 5 [some (vR 14 r0), some (vR 55 r1), none] [] h Q := by
  intro n
  induction n with
  | zero => intro _ _ _ w; exact w.elim
  | succ n ih => intro _ _ h w; exact w_X17_products_5 ih w
def W_X17_products_0 (D : JD) (d : Nat) (Q : JO → JH → Prop) (r0 : Nat) (h : JH) : Prop :=
  r0 ≠ 0 ∧ (cX17_minus D d r0 h (pR D h 55 (fun v_4 h_2 => ∃ n, L_X17_products_5 D d Q n r0 v_4 h_2) (jth Q)))
theorem w_X17_products_0 {D : JD} {d : Nat} {Q : JO → JH → Prop} {r0 : Nat} {h : JH} (w : W_X17_products_0 D d Q r0 h) : JW D (d + 1) mX17_products 0 [some (vR 14 r0), none, none] [] h Q := by
  unfold W_X17_products_0 at w
  refine jw_aload_n (pc' := 1) rfl rfl ?_
  obtain ⟨g_1, w⟩ := w
  refine jw_cR (st := []) (sa := [vR 14 r0]) okX17_minus rfl rfl rfl rfl rfl rfl (jstp_virtual (sa := []) (st := []) (k := 0) rfl rfl sX17_minus okX17_minus g_1 (one14.k g_1) rfl rfl) w (fun v_4 h_2 _ _ _ w => ?_)
  refine jw_astore_n (pc' := 5) (ls' := [some (vR 14 r0), some (vR 55 v_4), none]) rfl (by decide) rfl ?_
  obtain ⟨n, w⟩ := w
  exact l_X17_products_5 n _ _ _ w
def T_X17_products (D : JD) (d : Nat) (Q : JO → JH → Prop) (r0 : Nat) (h : JH) : Prop := W_X17_products_0 D d Q r0 h
theorem t_X17_products {D : JD} {d : Nat} {Q : JO → JH → Prop} {r0 : Nat} {h : JH} (w : T_X17_products D d Q r0 h) : cX17_products D (d + 1) r0 h Q := by
  unfold T_X17_products at w
  unfold cX17_products
  exact w_X17_products_0 w
def W_X17_minus_0 (D : JD) (d : Nat) (Q : JO → JH → Prop) (r0 : Nat) (h : JH) : Prop :=
  r0 ≠ 0 ∧ ((jfr h 79 r0) ≠ 0 ∧ (cX18_is D d (jfr h 79 r0) (jcs D 104) h (pI D h (fun v_5 h_3 => (¬ v_5 = 0 → cX17_enter D d r0 h_3 (pV D h_3 (fun h_7 => (jfr h_7 79 r0) ≠ 0 ∧ (cX18_next D d (jfr h_7 79 r0) h_7 (pV D h_7 (fun h_11 => ∀ (r_14 : Nat) (h_15 : JH), r_14 = jsz h_11 + 1 → h_15 = nwo h_11 26 4 → (cX17_minus D d r0 h_15 (pR D h_15 55 (fun v_20 h_18 => cX32_init D d r_14 (0 : Int32) v_20 h_18 (pV D h_18 (fun h_21 => ∀ h_24 : JH, h_24 = wfi h_21 80 r0 ((jfi h_21 80 r0) - (1 : Int32)) → (Q (.inl (some (vR 55 r_14))) h_24)) (jth Q))) (jth Q)))) (jth Q)))) (jth Q))) ∧ (v_5 = 0 → cX17_primary D d r0 h_3 (pR D h_3 55 (fun v_28 h_26 => Q (.inl (some (vR 55 v_28))) h_26) (jth Q)))) (jth Q))))
theorem w_X17_minus_0 {D : JD} {d : Nat} {Q : JO → JH → Prop} {r0 : Nat} {h : JH} (w : W_X17_minus_0 D d Q r0 h) : JW D (d + 1) mX17_minus 0 [some (vR 14 r0), none] [] h Q := by
  unfold W_X17_minus_0 at w
  refine jw_aload_n (pc' := 1) rfl rfl ?_
  obtain ⟨g_1, w⟩ := w
  refine jw_getR (pc' := 4) (F := 79) (t' := 15) rfl rfl rfl rfl rfl g_1 ?_
  refine jw_ldcwS (pc' := 7) rfl rfl rfl rfl ?_
  obtain ⟨g_2, w⟩ := w
  refine jw_cI (st := []) (sa := [vR 15 (jfr h 79 r0), vR 51 (jcs D 104)]) okX18_is rfl rfl rfl rfl rfl rfl (jstp_virtual (sa := [vR 51 (jcs D 104)]) (st := []) (k := 0) rfl rfl sX18_is okX18_is g_2 (one15.k g_2) rfl rfl) w (fun v_5 h_3 _ _ w => ?_)
  refine jw_if_ne (tgt := 18) (pc' := 13) rfl rfl (fun c_6 => ?_) (fun c_6 => ?_)
  · replace w := w.1 c_6
    refine jw_aload_n (pc' := 19) rfl rfl ?_
    refine jw_cV (st := []) (sa := [vR 14 r0]) okX17_enter rfl rfl rfl rfl rfl rfl (jstp_virtual (sa := []) (st := []) (k := 0) rfl rfl sX17_enter okX17_enter g_1 (one14.k g_1) rfl rfl) w (fun h_7 _ _ w => ?_)
    refine jw_aload_n (pc' := 23) rfl rfl ?_
    refine jw_getR (pc' := 26) (F := 79) (t' := 15) rfl rfl rfl rfl rfl g_1 ?_
    obtain ⟨g_10, w⟩ := w
    refine jw_cV (st := []) (sa := [vR 15 (jfr h_7 79 r0)]) okX18_next rfl rfl rfl rfl rfl rfl (jstp_virtual (sa := []) (st := []) (k := 0) rfl rfl sX18_next okX18_next g_10 (one15.k g_10) rfl rfl) w (fun h_11 _ _ w => ?_)
    refine jw_new' (pc' := 32) (k := 26) (n := 4) rfl rfl rfl rfl rfl rfl rfl (fun r_14 h_15 e_16 e_17 => ?_)
    replace w := w r_14 h_15 e_16 e_17
    refine jw_dup (pc' := 33) rfl rfl ?_
    refine jw_iconst (pc' := 34) (x := (0 : Int32)) rfl rfl ?_
    refine jw_aload_n (pc' := 35) rfl rfl ?_
    refine jw_cR (st := [vI (0 : Int32), vR 26 r_14, vR 26 r_14]) (sa := [vR 14 r0]) okX17_minus rfl rfl rfl rfl rfl rfl (jstp_virtual (sa := []) (st := [vI (0 : Int32), vR 26 r_14, vR 26 r_14]) (k := 0) rfl rfl sX17_minus okX17_minus g_1 (one14.k g_1) rfl rfl) w (fun v_20 h_18 _ _ _ w => ?_)
    refine jw_cV (st := [vR 26 r_14]) (sa := [vR 26 r_14, vI (0 : Int32), vR 55 v_20]) okX32_init rfl rfl rfl rfl rfl rfl (jstp_init (sa := [vI (0 : Int32), vR 55 v_20]) (st := [vR 26 r_14]) rfl rfl sX32_init okX32_init (lw_g (jtb_mem (c := 8) (i := 67) rfl) rfl) (jnz e_16) rfl rfl) w (fun h_21 _ _ w => ?_)
    refine jw_astore_n (pc' := 42) (ls' := [some (vR 14 r0), some (vR 26 r_14)]) rfl (by decide) rfl ?_
    refine jw_aload_n (pc' := 43) rfl rfl ?_
    refine jw_dup (pc' := 44) rfl rfl ?_
    refine jw_getI (pc' := 47) (F := 80) rfl rfl rfl rfl g_1 ?_
    refine jw_iconst (pc' := 48) (x := (1 : Int32)) rfl rfl ?_
    refine jw_isub (pc' := 49) rfl ?_
    refine jw_putI' (pc' := 52) (F := 80) rfl rfl rfl (Or.inr rfl) (Or.inl rfl) rfl (rfl) (rfl) rfl g_1 (fun h_24 e_25 => ?_)
    replace w := w h_24 e_25
    refine jw_aload_n (pc' := 53) rfl rfl ?_
    exact jw_areturn rfl rfl rfl rfl rfl w
  · replace w := w.2 c_6
    refine jw_aload_n (pc' := 14) rfl rfl ?_
    refine jw_cR (st := []) (sa := [vR 14 r0]) okX17_primary rfl rfl rfl rfl rfl rfl (jstp_virtual (sa := []) (st := []) (k := 0) rfl rfl sX17_primary okX17_primary g_1 (one14.k g_1) rfl rfl) w (fun v_28 h_26 _ _ _ w => ?_)
    exact jw_areturn rfl rfl rfl rfl rfl w
def T_X17_minus (D : JD) (d : Nat) (Q : JO → JH → Prop) (r0 : Nat) (h : JH) : Prop := W_X17_minus_0 D d Q r0 h
theorem t_X17_minus {D : JD} {d : Nat} {Q : JO → JH → Prop} {r0 : Nat} {h : JH} (w : T_X17_minus D d Q r0 h) : cX17_minus D (d + 1) r0 h Q := by
  unfold T_X17_minus at w
  unfold cX17_minus
  exact w_X17_minus_0 w
def W_X17_primary_146 (D : JD) (d : Nat) (Q : JO → JH → Prop) (r0 : Nat) (r1 : Nat) (h : JH) : Prop :=
  r0 ≠ 0 ∧ ((jfr h 79 r0) ≠ 0 ∧ (cX18_next D d (jfr h 79 r0) h (pV D h (fun h_3 => ∀ (r_6 : Nat) (h_7 : JH), r_6 = jsz h_3 + 1 → h_7 = nwo h_3 25 2 → (cX31_init D d r_6 r1 h_7 (pV D h_7 (fun h_10 => Q (.inl (some (vR 55 r_6))) h_10) (jth Q)))) (jth Q))))
theorem w_X17_primary_146 {D : JD} {d : Nat} {Q : JO → JH → Prop} {r0 : Nat} {r1 : Nat} {h : JH} (w : W_X17_primary_146 D d Q r0 r1 h) : JW D (d + 1) mX17_primary 146 [some (vR 14 r0), some (vR 101 r1), none, none] [] h Q := by
  unfold W_X17_primary_146 at w
  refine jw_aload_n (pc' := 147) rfl rfl ?_
  obtain ⟨g_1, w⟩ := w
  refine jw_getR (pc' := 150) (F := 79) (t' := 15) rfl rfl rfl rfl rfl g_1 ?_
  obtain ⟨g_2, w⟩ := w
  refine jw_cV (st := []) (sa := [vR 15 (jfr h 79 r0)]) okX18_next rfl rfl rfl rfl rfl rfl (jstp_virtual (sa := []) (st := []) (k := 0) rfl rfl sX18_next okX18_next g_2 (one15.k g_2) rfl rfl) w (fun h_3 _ _ w => ?_)
  refine jw_new' (pc' := 156) (k := 25) (n := 2) rfl rfl rfl rfl rfl rfl rfl (fun r_6 h_7 e_8 e_9 => ?_)
  replace w := w r_6 h_7 e_8 e_9
  refine jw_dup (pc' := 157) rfl rfl ?_
  refine jw_aload_n (pc' := 158) rfl rfl ?_
  refine jw_cV (st := [vR 25 r_6]) (sa := [vR 25 r_6, vR 101 r1]) okX31_init rfl rfl rfl rfl rfl rfl (jstp_init (sa := [vR 101 r1]) (st := [vR 25 r_6]) rfl rfl sX31_init okX31_init (lw_g (jtb_mem (c := 8) (i := 52) rfl) rfl) (jnz e_8) rfl rfl) w (fun h_10 _ _ w => ?_)
  exact jw_areturn rfl rfl rfl rfl rfl w
def W_X17_primary_0 (D : JD) (d : Nat) (Q : JO → JH → Prop) (r0 : Nat) (h : JH) : Prop :=
  ∀ (r_1 : Nat) (h_2 : JH), r_1 = jsz h + 1 → h_2 = nwo h 101 5 → (cX14_init D d r_1 h_2 (pV D h_2 (fun h_5 => r0 ≠ 0 ∧ ((jfr h_5 79 r0) ≠ 0 ∧ ((jfr h_5 86 (jfr h_5 79 r0)) ≠ 0 ∧ (cJ11_ordinal D d (jfr h_5 86 (jfr h_5 79 r0)) h_5 (pI D h_5 (fun v_13 h_11 => (v_13 = (1 : Int32) → (jfr h_11 79 r0) ≠ 0 ∧ (cX14_number D d r_1 (jfl h_11 89 (jfr h_11 79 r0)) h_11 (pR D h_11 8 (fun v_18 h_16 => W_X17_primary_146 D d Q r0 r_1 h_16) (jth Q)))) ∧ (v_13 = (2 : Int32) → (jfr h_11 79 r0) ≠ 0 ∧ (cX14_copy D d r_1 (jfr h_11 90 (jfr h_11 79 r0)) h_11 (pR D h_11 8 (fun v_23 h_21 => W_X17_primary_146 D d Q r0 r_1 h_21) (jth Q)))) ∧ (v_13 = (3 : Int32) → (jfr h_11 79 r0) ≠ 0 ∧ (cJ15_max D d (jfi h_11 82 r0) (Int64.toInt32 (jfl h_11 89 (jfr h_11 79 r0))) h_11 (pI D h_11 (fun v_28 h_26 => ∀ h_29 : JH, h_29 = wfi h_26 82 r0 v_28 → ((jfr h_29 79 r0) ≠ 0 ∧ (cX18_next D d (jfr h_29 79 r0) h_29 (pV D h_29 (fun h_32 => ∀ (r_35 : Nat) (h_36 : JH), r_35 = jsz h_32 + 1 → h_36 = nwo h_32 20 3 → (cX25_init D d r_35 (Int64.toInt32 (jfl h_11 89 (jfr h_11 79 r0))) h_36 (pV D h_36 (fun h_39 => Q (.inl (some (vR 55 r_35))) h_39) (jth Q)))) (jth Q))))) (jth Q)))) ∧ (v_13 = (4 : Int32) → (jfr h_11 79 r0) ≠ 0 ∧ (cX18_need D d (jfr h_11 79 r0) (jcs D 91) h_11 (pV D h_11 (fun h_44 => cX17_expression D d r0 h_44 (pR D h_44 55 (fun v_49 h_47 => (jfr h_47 79 r0) ≠ 0 ∧ (cX18_need D d (jfr h_47 79 r0) (jcs D 101) h_47 (pV D h_47 (fun h_51 => Q (.inl (some (vR 55 v_49))) h_51) (jth Q)))) (jth Q))) (jth Q)))) ∧ (¬ v_13 = (1 : Int32) → ¬ v_13 = (2 : Int32) → ¬ v_13 = (3 : Int32) → ¬ v_13 = (4 : Int32) → cX17_named D d r0 r_1 h_11 (pR D h_11 55 (fun v_56 h_54 => Q (.inl (some (vR 55 v_56))) h_54) (jth Q)))) (jth Q)))))) (jth Q)))
theorem w_X17_primary_0 {D : JD} {d : Nat} {Q : JO → JH → Prop} {r0 : Nat} {h : JH} (w : W_X17_primary_0 D d Q r0 h) : JW D (d + 1) mX17_primary 0 [some (vR 14 r0), none, none, none] [] h Q := by
  unfold W_X17_primary_0 at w
  refine jw_new' (pc' := 3) (k := 101) (n := 5) rfl rfl rfl rfl rfl rfl rfl (fun r_1 h_2 e_3 e_4 => ?_)
  replace w := w r_1 h_2 e_3 e_4
  refine jw_dup (pc' := 4) rfl rfl ?_
  refine jw_cV (st := [vR 101 r_1]) (sa := [vR 101 r_1]) okX14_init rfl rfl rfl rfl rfl rfl (jstp_init (sa := []) (st := [vR 101 r_1]) rfl rfl sX14_init okX14_init (lw_g (jtb_mem (c := 2) (i := 222) rfl) rfl) (jnz e_3) rfl rfl) w (fun h_5 _ _ w => ?_)
  refine jw_astore_n (pc' := 8) (ls' := [some (vR 14 r0), some (vR 101 r_1), none, none]) rfl (by decide) rfl ?_
  refine jw_aload_n (pc' := 9) rfl rfl ?_
  obtain ⟨g_8, w⟩ := w
  refine jw_getR (pc' := 12) (F := 79) (t' := 15) rfl rfl rfl rfl rfl g_8 ?_
  obtain ⟨g_9, w⟩ := w
  refine jw_getR (pc' := 15) (F := 86) (t' := 53) rfl rfl rfl rfl rfl g_9 ?_
  obtain ⟨g_10, w⟩ := w
  refine jw_cI (st := []) (sa := [vR 53 (jfr h_5 86 (jfr h_5 79 r0))]) okJ11_ordinal rfl rfl rfl rfl rfl rfl (jstp_up (sa := []) (st := []) rfl (lw_g (jtb_mem (c := 7) (i := 72) rfl) rfl) um17 okJ11_ordinal g_10 (one53.k g_10) rfl rfl) w (fun v_13 h_11 _ _ w => ?_)
  refine jw_tsw (cs := [((1 : Int32), 48), ((2 : Int32), 63), ((3 : Int32), 78), ((4 : Int32), 115)]) (dt := 140) rfl (by decide +kernel) ?_
  by_cases c_14 : v_13 = (1 : Int32)
  · rw [jsw_hit c_14]
    replace w := w.1 c_14
    refine jw_aload_n (pc' := 49) rfl rfl ?_
    refine jw_aload_n (pc' := 50) rfl rfl ?_
    refine jw_getR (pc' := 53) (F := 79) (t' := 15) rfl rfl rfl rfl rfl g_8 ?_
    obtain ⟨g_15, w⟩ := w
    refine jw_getL (pc' := 56) (F := 89) rfl rfl rfl rfl g_15 ?_
    refine jw_cR (st := []) (sa := [vR 101 r_1, vL (jfl h_11 89 (jfr h_11 79 r0))]) okX14_number rfl rfl rfl rfl rfl rfl (jstp_virtual (sa := [vL (jfl h_11 89 (jfr h_11 79 r0))]) (st := []) (k := 0) rfl rfl sX14_number okX14_number (jnz e_3) (one101.k (jnz e_3)) rfl rfl) w (fun v_18 h_16 _ _ _ w => ?_)
    refine jw_pop (pc' := 60) rfl rfl ?_
    refine jw_goto (pc' := 146) rfl rfl ?_
    exact w_X17_primary_146 w
  · rw [jsw_miss c_14]
    replace w := w.2
    by_cases c_19 : v_13 = (2 : Int32)
    · rw [jsw_hit c_19]
      replace w := w.1 c_19
      refine jw_aload_n (pc' := 64) rfl rfl ?_
      refine jw_aload_n (pc' := 65) rfl rfl ?_
      refine jw_getR (pc' := 68) (F := 79) (t' := 15) rfl rfl rfl rfl rfl g_8 ?_
      obtain ⟨g_20, w⟩ := w
      refine jw_getR (pc' := 71) (F := 90) (t' := 100) rfl rfl rfl rfl rfl g_20 ?_
      refine jw_cR (st := []) (sa := [vR 101 r_1, vR 100 (jfr h_11 90 (jfr h_11 79 r0))]) okX14_copy rfl rfl rfl rfl rfl rfl (jstp_virtual (sa := [vR 100 (jfr h_11 90 (jfr h_11 79 r0))]) (st := []) (k := 0) rfl rfl sX14_copy okX14_copy (jnz e_3) (one101.k (jnz e_3)) rfl rfl) w (fun v_23 h_21 _ _ _ w => ?_)
      refine jw_pop (pc' := 75) rfl rfl ?_
      refine jw_goto (pc' := 146) rfl rfl ?_
      exact w_X17_primary_146 w
    · rw [jsw_miss c_19]
      replace w := w.2
      by_cases c_24 : v_13 = (3 : Int32)
      · rw [jsw_hit c_24]
        replace w := w.1 c_24
        refine jw_aload_n (pc' := 79) rfl rfl ?_
        refine jw_getR (pc' := 82) (F := 79) (t' := 15) rfl rfl rfl rfl rfl g_8 ?_
        obtain ⟨g_25, w⟩ := w
        refine jw_getL (pc' := 85) (F := 89) rfl rfl rfl rfl g_25 ?_
        refine jw_l2i (pc' := 86) rfl ?_
        refine jw_istore_n (pc' := 87) (ls' := [some (vR 14 r0), some (vR 101 r_1), some (vI (Int64.toInt32 (jfl h_11 89 (jfr h_11 79 r0)))), none]) rfl (by decide) rfl ?_
        refine jw_aload_n (pc' := 88) rfl rfl ?_
        refine jw_aload_n (pc' := 89) rfl rfl ?_
        refine jw_getI (pc' := 92) (F := 82) rfl rfl rfl rfl g_8 ?_
        refine jw_iload_n (pc' := 93) rfl rfl ?_
        refine jw_cI (st := [vR 14 r0]) (sa := [vI (jfi h_11 82 r0), vI (Int64.toInt32 (jfl h_11 89 (jfr h_11 79 r0)))]) okJ15_max rfl rfl rfl rfl rfl rfl (jstp_static (sa := [vI (jfi h_11 82 r0), vI (Int64.toInt32 (jfl h_11 89 (jfr h_11 79 r0)))]) (st := [vR 14 r0]) rfl rfl sJ15_max okJ15_max rfl rfl) w (fun v_28 h_26 _ _ w => ?_)
        refine jw_putI' (pc' := 99) (F := 82) rfl rfl rfl (Or.inr rfl) (Or.inl rfl) rfl (rfl) (rfl) rfl g_8 (fun h_29 e_30 => ?_)
        replace w := w h_29 e_30
        refine jw_aload_n (pc' := 100) rfl rfl ?_
        refine jw_getR (pc' := 103) (F := 79) (t' := 15) rfl rfl rfl rfl rfl g_8 ?_
        obtain ⟨g_31, w⟩ := w
        refine jw_cV (st := []) (sa := [vR 15 (jfr h_29 79 r0)]) okX18_next rfl rfl rfl rfl rfl rfl (jstp_virtual (sa := []) (st := []) (k := 0) rfl rfl sX18_next okX18_next g_31 (one15.k g_31) rfl rfl) w (fun h_32 _ _ w => ?_)
        refine jw_new' (pc' := 109) (k := 20) (n := 3) rfl rfl rfl rfl rfl rfl rfl (fun r_35 h_36 e_37 e_38 => ?_)
        replace w := w r_35 h_36 e_37 e_38
        refine jw_dup (pc' := 110) rfl rfl ?_
        refine jw_iload_n (pc' := 111) rfl rfl ?_
        refine jw_cV (st := [vR 20 r_35]) (sa := [vR 20 r_35, vI (Int64.toInt32 (jfl h_11 89 (jfr h_11 79 r0)))]) okX25_init rfl rfl rfl rfl rfl rfl (jstp_init (sa := [vI (Int64.toInt32 (jfl h_11 89 (jfr h_11 79 r0)))]) (st := [vR 20 r_35]) rfl rfl sX25_init okX25_init (lw_g (jtb_mem (c := 7) (i := 92) rfl) rfl) (jnz e_37) rfl rfl) w (fun h_39 _ _ w => ?_)
        exact jw_areturn rfl rfl rfl rfl rfl w
      · rw [jsw_miss c_24]
        replace w := w.2
        by_cases c_42 : v_13 = (4 : Int32)
        · rw [jsw_hit c_42]
          replace w := w.1 c_42
          refine jw_aload_n (pc' := 116) rfl rfl ?_
          refine jw_getR (pc' := 119) (F := 79) (t' := 15) rfl rfl rfl rfl rfl g_8 ?_
          refine jw_ldcS (pc' := 121) rfl rfl rfl rfl ?_
          obtain ⟨g_43, w⟩ := w
          refine jw_cV (st := []) (sa := [vR 15 (jfr h_11 79 r0), vR 51 (jcs D 91)]) okX18_need rfl rfl rfl rfl rfl rfl (jstp_virtual (sa := [vR 51 (jcs D 91)]) (st := []) (k := 0) rfl rfl sX18_need okX18_need g_43 (one15.k g_43) rfl rfl) w (fun h_44 _ _ w => ?_)
          refine jw_aload_n (pc' := 125) rfl rfl ?_
          refine jw_cR (st := []) (sa := [vR 14 r0]) okX17_expression rfl rfl rfl rfl rfl rfl (jstp_virtual (sa := []) (st := []) (k := 0) rfl rfl sX17_expression okX17_expression g_8 (one14.k g_8) rfl rfl) w (fun v_49 h_47 _ _ _ w => ?_)
          refine jw_astore_n (pc' := 129) (ls' := [some (vR 14 r0), some (vR 101 r_1), none, some (vR 55 v_49)]) rfl (by decide) rfl ?_
          refine jw_aload_n (pc' := 130) rfl rfl ?_
          refine jw_getR (pc' := 133) (F := 79) (t' := 15) rfl rfl rfl rfl rfl g_8 ?_
          refine jw_ldcS (pc' := 135) rfl rfl rfl rfl ?_
          obtain ⟨g_50, w⟩ := w
          refine jw_cV (st := []) (sa := [vR 15 (jfr h_47 79 r0), vR 51 (jcs D 101)]) okX18_need rfl rfl rfl rfl rfl rfl (jstp_virtual (sa := [vR 51 (jcs D 101)]) (st := []) (k := 0) rfl rfl sX18_need okX18_need g_50 (one15.k g_50) rfl rfl) w (fun h_51 _ _ w => ?_)
          refine jw_aload_n (pc' := 139) rfl rfl ?_
          exact jw_areturn rfl rfl rfl rfl rfl w
        · rw [jsw_miss c_42]
          replace w := w.2
          rw [jsw_nil]
          replace w := w c_14 c_19 c_24 c_42
          refine jw_aload_n (pc' := 141) rfl rfl ?_
          refine jw_aload_n (pc' := 142) rfl rfl ?_
          refine jw_cR (st := []) (sa := [vR 14 r0, vR 101 r_1]) okX17_named rfl rfl rfl rfl rfl rfl (jstp_virtual (sa := [vR 101 r_1]) (st := []) (k := 0) rfl rfl sX17_named okX17_named g_8 (one14.k g_8) rfl rfl) w (fun v_56 h_54 _ _ _ w => ?_)
          exact jw_areturn rfl rfl rfl rfl rfl w
def T_X17_primary (D : JD) (d : Nat) (Q : JO → JH → Prop) (r0 : Nat) (h : JH) : Prop := W_X17_primary_0 D d Q r0 h
theorem t_X17_primary {D : JD} {d : Nat} {Q : JO → JH → Prop} {r0 : Nat} {h : JH} (w : T_X17_primary D d Q r0 h) : cX17_primary D (d + 1) r0 h Q := by
  unfold T_X17_primary at w
  unfold cX17_primary
  exact w_X17_primary_0 w
def W_X17_named_141 (D : JD) (d : Nat) (Q : JO → JH → Prop) (r0 : Nat) (r1 : Nat) (h : JH) : Prop :=
  r0 ≠ 0 ∧ ((jfr h 79 r0) ≠ 0 ∧ (cX18_next D d (jfr h 79 r0) h (pV D h (fun h_3 => ∀ (r_6 : Nat) (h_7 : JH), r_6 = jsz h_3 + 1 → h_7 = nwo h_3 25 2 → (cX31_init D d r_6 r1 h_7 (pV D h_7 (fun h_10 => Q (.inl (some (vR 55 r_6))) h_10) (jth Q)))) (jth Q))))
theorem w_X17_named_141 {D : JD} {d : Nat} {Q : JO → JH → Prop} {r0 : Nat} {r1 : Nat} {h : JH} (w : W_X17_named_141 D d Q r0 r1 h) : JW D (d + 1) mX17_named 141 [some (vR 14 r0), some (vR 8 r1), none] [] h Q := by
  unfold W_X17_named_141 at w
  refine jw_aload_n (pc' := 142) rfl rfl ?_
  obtain ⟨g_1, w⟩ := w
  refine jw_getR (pc' := 145) (F := 79) (t' := 15) rfl rfl rfl rfl rfl g_1 ?_
  obtain ⟨g_2, w⟩ := w
  refine jw_cV (st := []) (sa := [vR 15 (jfr h 79 r0)]) okX18_next rfl rfl rfl rfl rfl rfl (jstp_virtual (sa := []) (st := []) (k := 0) rfl rfl sX18_next okX18_next g_2 (one15.k g_2) rfl rfl) w (fun h_3 _ _ w => ?_)
  refine jw_new' (pc' := 151) (k := 25) (n := 2) rfl rfl rfl rfl rfl rfl rfl (fun r_6 h_7 e_8 e_9 => ?_)
  replace w := w r_6 h_7 e_8 e_9
  refine jw_dup (pc' := 152) rfl rfl ?_
  refine jw_aload_n (pc' := 153) rfl rfl ?_
  refine jw_cV (st := [vR 25 r_6]) (sa := [vR 25 r_6, vR 8 r1]) okX31_init rfl rfl rfl rfl rfl rfl (jstp_init (sa := [vR 8 r1]) (st := [vR 25 r_6]) rfl rfl sX31_init okX31_init (lw_g (jtb_mem (c := 8) (i := 52) rfl) rfl) (jnz e_8) rfl rfl) w (fun h_10 _ _ w => ?_)
  exact jw_areturn rfl rfl rfl rfl rfl w
def W_X17_named_26 (D : JD) (d : Nat) (Q : JO → JH → Prop) (r0 : Nat) (r1 : Nat) (h : JH) : Prop :=
  r0 ≠ 0 ∧ ((jfr h 79 r0) ≠ 0 ∧ (cX18_isWord D d (jfr h 79 r0) (jcs D 106) h (pI D h (fun v_5 h_3 => r1 ≠ 0 ∧ (cX14_truth D d r1 v_5 h_3 (pR D h_3 8 (fun v_9 h_7 => W_X17_named_141 D d Q r0 r1 h_7) (jth Q)))) (jth Q))))
theorem w_X17_named_26 {D : JD} {d : Nat} {Q : JO → JH → Prop} {r0 : Nat} {r1 : Nat} {h : JH} (w : W_X17_named_26 D d Q r0 r1 h) : JW D (d + 1) mX17_named 26 [some (vR 14 r0), some (vR 8 r1), none] [] h Q := by
  unfold W_X17_named_26 at w
  refine jw_aload_n (pc' := 27) rfl rfl ?_
  refine jw_aload_n (pc' := 28) rfl rfl ?_
  obtain ⟨g_1, w⟩ := w
  refine jw_getR (pc' := 31) (F := 79) (t' := 15) rfl rfl rfl rfl rfl g_1 ?_
  refine jw_ldcwS (pc' := 34) rfl rfl rfl rfl ?_
  obtain ⟨g_2, w⟩ := w
  refine jw_cI (st := [vR 8 r1]) (sa := [vR 15 (jfr h 79 r0), vR 51 (jcs D 106)]) okX18_isWord rfl rfl rfl rfl rfl rfl (jstp_virtual (sa := [vR 51 (jcs D 106)]) (st := [vR 8 r1]) (k := 0) rfl rfl sX18_isWord okX18_isWord g_2 (one15.k g_2) rfl rfl) w (fun v_5 h_3 _ _ w => ?_)
  obtain ⟨g_6, w⟩ := w
  refine jw_cR (st := []) (sa := [vR 8 r1, vI v_5]) okX14_truth rfl rfl rfl rfl rfl rfl (jstp_virtual (sa := [vI v_5]) (st := []) (k := 0) rfl rfl sX14_truth okX14_truth g_6 (one8.k g_6) rfl rfl) w (fun v_9 h_7 _ _ _ w => ?_)
  refine jw_pop (pc' := 41) rfl rfl ?_
  refine jw_goto (pc' := 141) rfl rfl ?_
  exact w_X17_named_141 w
def W_X17_named_140 (D : JD) (d : Nat) (Q : JO → JH → Prop) (q0 : Nat) (h : JH) : Prop :=
  Q (.inl (some (vR 55 q0))) h
theorem w_X17_named_140 {D : JD} {d : Nat} {Q : JO → JH → Prop} {q0 : Nat} {h : JH} (w : W_X17_named_140 D d Q q0 h) : JW D (d + 1) mX17_named 140 [none, none, none] [vR 24 q0] h Q := by
  unfold W_X17_named_140 at w
  exact jw_areturn rfl rfl rfl rfl rfl w
def W_X17_named_0 (D : JD) (d : Nat) (Q : JO → JH → Prop) (r0 : Nat) (r1 : Nat) (h : JH) : Prop :=
  r0 ≠ 0 ∧ ((jfr h 79 r0) ≠ 0 ∧ (cX18_isWord D d (jfr h 79 r0) (jcs D 106) h (pI D h (fun v_5 h_3 => (¬ v_5 = 0 → W_X17_named_26 D d Q r0 r1 h_3) ∧ (v_5 = 0 → (jfr h_3 79 r0) ≠ 0 ∧ (cX18_isWord D d (jfr h_3 79 r0) (jcs D 107) h_3 (pI D h_3 (fun v_10 h_8 => (v_10 = 0 → (jfr h_8 79 r0) ≠ 0 ∧ (cX18_takesWord D d (jfr h_8 79 r0) (jcs D 108) h_8 (pI D h_8 (fun v_15 h_13 => (v_15 = 0 → (jfr h_13 79 r0) ≠ 0 ∧ (cX18_isWord D d (jfr h_13 79 r0) (jcs D 96) h_13 (pI D h_13 (fun v_20 h_18 => (¬ v_20 = 0 → W_X17_named_141 D d Q r0 r1 h_18) ∧ (v_20 = 0 → (jfr h_18 79 r0) ≠ 0 ∧ (cX18_name D d (jfr h_18 79 r0) h_18 (pR D h_18 64 (fun v_25 h_23 => (jfr h_23 79 r0) ≠ 0 ∧ (cX18_takes D d (jfr h_23 79 r0) (jcs D 91) h_23 (pI D h_23 (fun v_29 h_27 => (v_29 = 0 → (jfr h_27 79 r0) ≠ 0 ∧ (cX18_takes D d (jfr h_27 79 r0) (jcs D 118) h_27 (pI D h_27 (fun v_34 h_32 => (v_34 = 0 → ∀ (r_36 : Nat) (h_37 : JH), r_36 = jsz h_32 + 1 → h_37 = nwo h_32 24 6 → (cX30_init D d r_36 0 v_25 h_37 (pV D h_37 (fun h_40 => W_X17_named_140 D d Q r_36 h_40) (jth Q)))) ∧ (¬ v_34 = 0 → ∀ (r_43 : Nat) (h_44 : JH), r_43 = jsz h_32 + 1 → h_44 = nwo h_32 24 6 → ((jfr h_44 79 r0) ≠ 0 ∧ (cX18_name D d (jfr h_44 79 r0) h_44 (pR D h_44 64 (fun v_50 h_48 => cX30_init D d r_43 v_25 v_50 h_48 (pV D h_48 (fun h_51 => W_X17_named_140 D d Q r_43 h_51) (jth Q))) (jth Q)))))) (jth Q)))) ∧ (¬ v_29 = 0 → cX17_call D d r0 v_25 h_27 (pR D h_27 55 (fun v_56 h_54 => Q (.inl (some (vR 55 v_56))) h_54) (jth Q)))) (jth Q)))) (jth Q))))) (jth Q)))) ∧ (¬ v_15 = 0 → cX17_cases D d r0 h_13 (pR D h_13 55 (fun v_59 h_57 => Q (.inl (some (vR 55 v_59))) h_57) (jth Q)))) (jth Q)))) ∧ (¬ v_10 = 0 → W_X17_named_26 D d Q r0 r1 h_8)) (jth Q))))) (jth Q))))
theorem w_X17_named_0 {D : JD} {d : Nat} {Q : JO → JH → Prop} {r0 : Nat} {r1 : Nat} {h : JH} (w : W_X17_named_0 D d Q r0 r1 h) : JW D (d + 1) mX17_named 0 [some (vR 14 r0), some (vR 8 r1), none] [] h Q := by
  unfold W_X17_named_0 at w
  refine jw_aload_n (pc' := 1) rfl rfl ?_
  obtain ⟨g_1, w⟩ := w
  refine jw_getR (pc' := 4) (F := 79) (t' := 15) rfl rfl rfl rfl rfl g_1 ?_
  refine jw_ldcwS (pc' := 7) rfl rfl rfl rfl ?_
  obtain ⟨g_2, w⟩ := w
  refine jw_cI (st := []) (sa := [vR 15 (jfr h 79 r0), vR 51 (jcs D 106)]) okX18_isWord rfl rfl rfl rfl rfl rfl (jstp_virtual (sa := [vR 51 (jcs D 106)]) (st := []) (k := 0) rfl rfl sX18_isWord okX18_isWord g_2 (one15.k g_2) rfl rfl) w (fun v_5 h_3 _ _ w => ?_)
  refine jw_if_ne (tgt := 26) (pc' := 13) rfl rfl (fun c_6 => ?_) (fun c_6 => ?_)
  · replace w := w.1 c_6
    exact w_X17_named_26 w
  · replace w := w.2 c_6
    refine jw_aload_n (pc' := 14) rfl rfl ?_
    refine jw_getR (pc' := 17) (F := 79) (t' := 15) rfl rfl rfl rfl rfl g_1 ?_
    refine jw_ldcwS (pc' := 20) rfl rfl rfl rfl ?_
    obtain ⟨g_7, w⟩ := w
    refine jw_cI (st := []) (sa := [vR 15 (jfr h_3 79 r0), vR 51 (jcs D 107)]) okX18_isWord rfl rfl rfl rfl rfl rfl (jstp_virtual (sa := [vR 51 (jcs D 107)]) (st := []) (k := 0) rfl rfl sX18_isWord okX18_isWord g_7 (one15.k g_7) rfl rfl) w (fun v_10 h_8 _ _ w => ?_)
    refine jw_if_eq (tgt := 44) (pc' := 26) rfl rfl (fun c_11 => ?_) (fun c_11 => ?_)
    · replace w := w.1 c_11
      refine jw_aload_n (pc' := 45) rfl rfl ?_
      refine jw_getR (pc' := 48) (F := 79) (t' := 15) rfl rfl rfl rfl rfl g_1 ?_
      refine jw_ldcwS (pc' := 51) rfl rfl rfl rfl ?_
      obtain ⟨g_12, w⟩ := w
      refine jw_cI (st := []) (sa := [vR 15 (jfr h_8 79 r0), vR 51 (jcs D 108)]) okX18_takesWord rfl rfl rfl rfl rfl rfl (jstp_virtual (sa := [vR 51 (jcs D 108)]) (st := []) (k := 0) rfl rfl sX18_takesWord okX18_takesWord g_12 (one15.k g_12) rfl rfl) w (fun v_15 h_13 _ _ w => ?_)
      refine jw_if_eq (tgt := 62) (pc' := 57) rfl rfl (fun c_16 => ?_) (fun c_16 => ?_)
      · replace w := w.1 c_16
        refine jw_aload_n (pc' := 63) rfl rfl ?_
        refine jw_getR (pc' := 66) (F := 79) (t' := 15) rfl rfl rfl rfl rfl g_1 ?_
        refine jw_ldcS (pc' := 68) rfl rfl rfl rfl ?_
        obtain ⟨g_17, w⟩ := w
        refine jw_cI (st := []) (sa := [vR 15 (jfr h_13 79 r0), vR 51 (jcs D 96)]) okX18_isWord rfl rfl rfl rfl rfl rfl (jstp_virtual (sa := [vR 51 (jcs D 96)]) (st := []) (k := 0) rfl rfl sX18_isWord okX18_isWord g_17 (one15.k g_17) rfl rfl) w (fun v_20 h_18 _ _ w => ?_)
        refine jw_if_ne (tgt := 141) (pc' := 74) rfl rfl (fun c_21 => ?_) (fun c_21 => ?_)
        · replace w := w.1 c_21
          exact w_X17_named_141 w
        · replace w := w.2 c_21
          refine jw_aload_n (pc' := 75) rfl rfl ?_
          refine jw_getR (pc' := 78) (F := 79) (t' := 15) rfl rfl rfl rfl rfl g_1 ?_
          obtain ⟨g_22, w⟩ := w
          refine jw_cR (st := []) (sa := [vR 15 (jfr h_18 79 r0)]) okX18_name rfl rfl rfl rfl rfl rfl (jstp_virtual (sa := []) (st := []) (k := 0) rfl rfl sX18_name okX18_name g_22 (one15.k g_22) rfl rfl) w (fun v_25 h_23 _ _ _ w => ?_)
          refine jw_astore_n (pc' := 82) (ls' := [some (vR 14 r0), some (vR 8 r1), some (vR 64 v_25)]) rfl (by decide) rfl ?_
          refine jw_aload_n (pc' := 83) rfl rfl ?_
          refine jw_getR (pc' := 86) (F := 79) (t' := 15) rfl rfl rfl rfl rfl g_1 ?_
          refine jw_ldcS (pc' := 88) rfl rfl rfl rfl ?_
          obtain ⟨g_26, w⟩ := w
          refine jw_cI (st := []) (sa := [vR 15 (jfr h_23 79 r0), vR 51 (jcs D 91)]) okX18_takes rfl rfl rfl rfl rfl rfl (jstp_virtual (sa := [vR 51 (jcs D 91)]) (st := []) (k := 0) rfl rfl sX18_takes okX18_takes g_26 (one15.k g_26) rfl rfl) w (fun v_29 h_27 _ _ w => ?_)
          refine jw_if_eq (tgt := 100) (pc' := 94) rfl rfl (fun c_30 => ?_) (fun c_30 => ?_)
          · replace w := w.1 c_30
            refine jw_aload_n (pc' := 101) rfl rfl ?_
            refine jw_getR (pc' := 104) (F := 79) (t' := 15) rfl rfl rfl rfl rfl g_1 ?_
            refine jw_ldcwS (pc' := 107) rfl rfl rfl rfl ?_
            obtain ⟨g_31, w⟩ := w
            refine jw_cI (st := []) (sa := [vR 15 (jfr h_27 79 r0), vR 51 (jcs D 118)]) okX18_takes rfl rfl rfl rfl rfl rfl (jstp_virtual (sa := [vR 51 (jcs D 118)]) (st := []) (k := 0) rfl rfl sX18_takes okX18_takes g_31 (one15.k g_31) rfl rfl) w (fun v_34 h_32 _ _ w => ?_)
            refine jw_if_eq (tgt := 131) (pc' := 113) rfl rfl (fun c_35 => ?_) (fun c_35 => ?_)
            · replace w := w.1 c_35
              refine jw_new' (pc' := 134) (k := 24) (n := 6) rfl rfl rfl rfl rfl rfl rfl (fun r_36 h_37 e_38 e_39 => ?_)
              replace w := w r_36 h_37 e_38 e_39
              refine jw_dup (pc' := 135) rfl rfl ?_
              refine jw_null (pc' := 136) (t := 64) rfl ?_
              refine jw_aload_n (pc' := 137) rfl rfl ?_
              refine jw_cV (st := [vR 24 r_36]) (sa := [vR 24 r_36, vR 64 0, vR 64 v_25]) okX30_init rfl rfl rfl rfl rfl rfl (jstp_init (sa := [vR 64 0, vR 64 v_25]) (st := [vR 24 r_36]) rfl rfl sX30_init okX30_init (lw_g (jtb_mem (c := 8) (i := 25) rfl) rfl) (jnz e_38) rfl rfl) w (fun h_40 _ _ w => ?_)
              refine jw_gen (ls' := [none, none, none]) (st' := [vR 24 r_36]) (trivial) (And.intro (Or.inl rfl) (trivial)) ?_
              exact w_X17_named_140 w
            · replace w := w.2 c_35
              refine jw_new' (pc' := 116) (k := 24) (n := 6) rfl rfl rfl rfl rfl rfl rfl (fun r_43 h_44 e_45 e_46 => ?_)
              replace w := w r_43 h_44 e_45 e_46
              refine jw_dup (pc' := 117) rfl rfl ?_
              refine jw_aload_n (pc' := 118) rfl rfl ?_
              refine jw_aload_n (pc' := 119) rfl rfl ?_
              refine jw_getR (pc' := 122) (F := 79) (t' := 15) rfl rfl rfl rfl rfl g_1 ?_
              obtain ⟨g_47, w⟩ := w
              refine jw_cR (st := [vR 64 v_25, vR 24 r_43, vR 24 r_43]) (sa := [vR 15 (jfr h_44 79 r0)]) okX18_name rfl rfl rfl rfl rfl rfl (jstp_virtual (sa := []) (st := [vR 64 v_25, vR 24 r_43, vR 24 r_43]) (k := 0) rfl rfl sX18_name okX18_name g_47 (one15.k g_47) rfl rfl) w (fun v_50 h_48 _ _ _ w => ?_)
              refine jw_cV (st := [vR 24 r_43]) (sa := [vR 24 r_43, vR 64 v_25, vR 64 v_50]) okX30_init rfl rfl rfl rfl rfl rfl (jstp_init (sa := [vR 64 v_25, vR 64 v_50]) (st := [vR 24 r_43]) rfl rfl sX30_init okX30_init (lw_g (jtb_mem (c := 8) (i := 25) rfl) rfl) (jnz e_45) rfl rfl) w (fun h_51 _ _ w => ?_)
              refine jw_goto (pc' := 140) rfl rfl ?_
              refine jw_gen (ls' := [none, none, none]) (st' := [vR 24 r_43]) (trivial) (And.intro (Or.inl rfl) (trivial)) ?_
              exact w_X17_named_140 w
          · replace w := w.2 c_30
            refine jw_aload_n (pc' := 95) rfl rfl ?_
            refine jw_aload_n (pc' := 96) rfl rfl ?_
            refine jw_cR (st := []) (sa := [vR 14 r0, vR 64 v_25]) okX17_call rfl rfl rfl rfl rfl rfl (jstp_virtual (sa := [vR 64 v_25]) (st := []) (k := 0) rfl rfl sX17_call okX17_call g_1 (one14.k g_1) rfl rfl) w (fun v_56 h_54 _ _ _ w => ?_)
            exact jw_areturn rfl rfl rfl rfl rfl w
      · replace w := w.2 c_16
        refine jw_aload_n (pc' := 58) rfl rfl ?_
        refine jw_cR (st := []) (sa := [vR 14 r0]) okX17_cases rfl rfl rfl rfl rfl rfl (jstp_virtual (sa := []) (st := []) (k := 0) rfl rfl sX17_cases okX17_cases g_1 (one14.k g_1) rfl rfl) w (fun v_59 h_57 _ _ _ w => ?_)
        exact jw_areturn rfl rfl rfl rfl rfl w
    · replace w := w.2 c_11
      exact w_X17_named_26 w
def T_X17_named (D : JD) (d : Nat) (Q : JO → JH → Prop) (r0 : Nat) (r1 : Nat) (h : JH) : Prop := W_X17_named_0 D d Q r0 r1 h
theorem t_X17_named {D : JD} {d : Nat} {Q : JO → JH → Prop} {r0 : Nat} {r1 : Nat} {h : JH} (w : T_X17_named D d Q r0 r1 h) : cX17_named D (d + 1) r0 r1 h Q := by
  unfold T_X17_named at w
  unfold cX17_named
  exact w_X17_named_0 w
def W_X17_cases_112 (D : JD) (d : Nat) (Q : JO → JH → Prop) (r0 : Nat) (r1 : Nat) (x2 : Int32) (h : JH) : Prop :=
  r0 ≠ 0 ∧ ((jfr h 79 r0) ≠ 0 ∧ (cX18_needWord D d (jfr h 79 r0) (jcs D 112) h (pV D h (fun h_3 => ∀ (r_6 : Nat) (h_7 : JH), r_6 = jsz h_3 + 1 → h_7 = nwo h_3 21 4 → (cX27_init D d r_6 r1 x2 h_7 (pV D h_7 (fun h_10 => Q (.inl (some (vR 55 r_6))) h_10) (jth Q)))) (jth Q))))
theorem w_X17_cases_112 {D : JD} {d : Nat} {Q : JO → JH → Prop} {r0 : Nat} {r1 : Nat} {x2 : Int32} {h : JH} (w : W_X17_cases_112 D d Q r0 r1 x2 h) : JW D (d + 1) mX17_cases 112 [some (vR 14 r0), some (vR 222 r1), some (vI x2)] [] h Q := by
  unfold W_X17_cases_112 at w
  refine jw_aload_n (pc' := 113) rfl rfl ?_
  obtain ⟨g_1, w⟩ := w
  refine jw_getR (pc' := 116) (F := 79) (t' := 15) rfl rfl rfl rfl rfl g_1 ?_
  refine jw_ldcwS (pc' := 119) rfl rfl rfl rfl ?_
  obtain ⟨g_2, w⟩ := w
  refine jw_cV (st := []) (sa := [vR 15 (jfr h 79 r0), vR 51 (jcs D 112)]) okX18_needWord rfl rfl rfl rfl rfl rfl (jstp_virtual (sa := [vR 51 (jcs D 112)]) (st := []) (k := 0) rfl rfl sX18_needWord okX18_needWord g_2 (one15.k g_2) rfl rfl) w (fun h_3 _ _ w => ?_)
  refine jw_new' (pc' := 125) (k := 21) (n := 4) rfl rfl rfl rfl rfl rfl rfl (fun r_6 h_7 e_8 e_9 => ?_)
  replace w := w r_6 h_7 e_8 e_9
  refine jw_dup (pc' := 126) rfl rfl ?_
  refine jw_aload_n (pc' := 127) rfl rfl ?_
  refine jw_iload_n (pc' := 128) rfl rfl ?_
  refine jw_cV (st := [vR 21 r_6]) (sa := [vR 21 r_6, vR 222 r1, vI x2]) okX27_init rfl rfl rfl rfl rfl rfl (jstp_init (sa := [vR 222 r1, vI x2]) (st := [vR 21 r_6]) rfl rfl sX27_init okX27_init (lw_g (jtb_mem (c := 7) (i := 181) rfl) rfl) (jnz e_8) rfl rfl) w (fun h_10 _ _ w => ?_)
  exact jw_areturn rfl rfl rfl rfl rfl w
def W_X17_cases_26 (D : JD) (d : Nat) (Q : JO → JH → Prop) (K26 : Nat → Nat → Int32 → JH → Prop) (r0 : Nat) (r1 : Nat) (x2 : Int32) (h : JH) : Prop :=
  r0 ≠ 0 ∧ ((jfr h 79 r0) ≠ 0 ∧ (cX18_isWord D d (jfr h 79 r0) (jcs D 109) h (pI D h (fun v_5 h_3 => (v_5 = 0 → (jfr h_3 79 r0) ≠ 0 ∧ (cX18_takesWord D d (jfr h_3 79 r0) (jcs D 111) h_3 (pI D h_3 (fun v_10 h_8 => (v_10 = 0 → W_X17_cases_112 D d Q r0 r1 x2 h_8) ∧ (¬ v_10 = 0 → cX17_expression D d r0 h_8 (pR D h_8 55 (fun v_14 h_12 => r1 ≠ 0 ∧ jin x2 (jln h_12 r1) ∧ ∀ h_17 : JH, h_17 = war h_12 r1 (ixn x2) v_14 → (W_X17_cases_112 D d Q r0 r1 (x2 + (1 : Int32)) h_17)) (jth Q)))) (jth Q)))) ∧ (¬ v_5 = 0 → (¬ x2 = (38 : Int32) → (jfr h_3 79 r0) ≠ 0 ∧ (cX18_next D d (jfr h_3 79 r0) h_3 (pV D h_3 (fun h_21 => cX17_expression D d r0 h_21 (pR D h_21 55 (fun v_26 h_24 => r1 ≠ 0 ∧ jin x2 (jln h_24 r1) ∧ ∀ h_29 : JH, h_29 = war h_24 r1 (ixn x2) v_26 → ((jfr h_29 79 r0) ≠ 0 ∧ (cX18_needWord D d (jfr h_29 79 r0) (jcs D 110) h_29 (pV D h_29 (fun h_32 => cX17_expression D d r0 h_32 (pR D h_32 55 (fun v_37 h_35 => jin (x2 + (1 : Int32)) (jln h_35 r1) ∧ ∀ h_39 : JH, h_39 = war h_35 r1 (ixn (x2 + (1 : Int32))) v_37 → (K26 r0 r1 (x2 + (2 : Int32)) h_39)) (jth Q))) (jth Q))))) (jth Q))) (jth Q)))) ∧ (x2 = (38 : Int32) → cX17_broken D d r0 h_3 (pR D h_3 9 (fun v_43 h_41 => v_43 ≠ 0 ∧ (Q (.inr v_43) h_41)) (jth Q))))) (jth Q))))
theorem w_X17_cases_26 {D : JD} {d : Nat} {Q : JO → JH → Prop} {K26 : Nat → Nat → Int32 → JH → Prop} {r0 : Nat} {r1 : Nat} {x2 : Int32} {h : JH} (hK26 : ∀ (r0 : Nat) (r1 : Nat) (x2 : Int32) (h : JH), K26 r0 r1 x2 h → JW D (d + 1) mX17_cases 26 [some (vR 14 r0), some (vR 222 r1), some (vI x2)] [] h Q) (w : W_X17_cases_26 D d Q K26 r0 r1 x2 h) : JW D (d + 1) mX17_cases 26 [some (vR 14 r0), some (vR 222 r1), some (vI x2)] [] h Q := by
  unfold W_X17_cases_26 at w
  refine jw_aload_n (pc' := 27) rfl rfl ?_
  obtain ⟨g_1, w⟩ := w
  refine jw_getR (pc' := 30) (F := 79) (t' := 15) rfl rfl rfl rfl rfl g_1 ?_
  refine jw_ldcwS (pc' := 33) rfl rfl rfl rfl ?_
  obtain ⟨g_2, w⟩ := w
  refine jw_cI (st := []) (sa := [vR 15 (jfr h 79 r0), vR 51 (jcs D 109)]) okX18_isWord rfl rfl rfl rfl rfl rfl (jstp_virtual (sa := [vR 51 (jcs D 109)]) (st := []) (k := 0) rfl rfl sX18_isWord okX18_isWord g_2 (one15.k g_2) rfl rfl) w (fun v_5 h_3 _ _ w => ?_)
  refine jw_if_eq (tgt := 89) (pc' := 39) rfl rfl (fun c_6 => ?_) (fun c_6 => ?_)
  · replace w := w.1 c_6
    refine jw_aload_n (pc' := 90) rfl rfl ?_
    refine jw_getR (pc' := 93) (F := 79) (t' := 15) rfl rfl rfl rfl rfl g_1 ?_
    refine jw_ldcwS (pc' := 96) rfl rfl rfl rfl ?_
    obtain ⟨g_7, w⟩ := w
    refine jw_cI (st := []) (sa := [vR 15 (jfr h_3 79 r0), vR 51 (jcs D 111)]) okX18_takesWord rfl rfl rfl rfl rfl rfl (jstp_virtual (sa := [vR 51 (jcs D 111)]) (st := []) (k := 0) rfl rfl sX18_takesWord okX18_takesWord g_7 (one15.k g_7) rfl rfl) w (fun v_10 h_8 _ _ w => ?_)
    refine jw_if_eq (tgt := 112) (pc' := 102) rfl rfl (fun c_11 => ?_) (fun c_11 => ?_)
    · replace w := w.1 c_11
      exact w_X17_cases_112 w
    · replace w := w.2 c_11
      refine jw_aload_n (pc' := 103) rfl rfl ?_
      refine jw_iload_n (pc' := 104) rfl rfl ?_
      refine jw_aload_n (pc' := 105) rfl rfl ?_
      refine jw_cR (st := [vI x2, vR 222 r1]) (sa := [vR 14 r0]) okX17_expression rfl rfl rfl rfl rfl rfl (jstp_virtual (sa := []) (st := [vI x2, vR 222 r1]) (k := 0) rfl rfl sX17_expression okX17_expression g_1 (one14.k g_1) rfl rfl) w (fun v_14 h_12 _ _ _ w => ?_)
      obtain ⟨g_15, w⟩ := w
      obtain ⟨g_16, w⟩ := w
      refine jw_aast' (pc' := 109) rfl rfl rfl rfl rfl rfl g_15 g_16 (fun h_17 e_18 => ?_)
      replace w := w h_17 e_18
      refine jw_iinc (pc' := 112) (y := x2 + (1 : Int32)) (ls' := [some (vR 14 r0), some (vR 222 r1), some (vI (x2 + (1 : Int32)))]) rfl (by decide) rfl rfl rfl ?_
      exact w_X17_cases_112 w
  · replace w := w.2 c_6
    refine jw_iload_n (pc' := 40) rfl rfl ?_
    refine jw_bipush (pc' := 42) (x := (38 : Int32)) rfl rfl ?_
    refine jw_icmp_ne (tgt := 50) (pc' := 45) rfl rfl (fun c_19 => ?_) (fun c_19 => ?_)
    · replace w := w.1 c_19
      refine jw_aload_n (pc' := 51) rfl rfl ?_
      refine jw_getR (pc' := 54) (F := 79) (t' := 15) rfl rfl rfl rfl rfl g_1 ?_
      obtain ⟨g_20, w⟩ := w
      refine jw_cV (st := []) (sa := [vR 15 (jfr h_3 79 r0)]) okX18_next rfl rfl rfl rfl rfl rfl (jstp_virtual (sa := []) (st := []) (k := 0) rfl rfl sX18_next okX18_next g_20 (one15.k g_20) rfl rfl) w (fun h_21 _ _ w => ?_)
      refine jw_aload_n (pc' := 58) rfl rfl ?_
      refine jw_iload_n (pc' := 59) rfl rfl ?_
      refine jw_aload_n (pc' := 60) rfl rfl ?_
      refine jw_cR (st := [vI x2, vR 222 r1]) (sa := [vR 14 r0]) okX17_expression rfl rfl rfl rfl rfl rfl (jstp_virtual (sa := []) (st := [vI x2, vR 222 r1]) (k := 0) rfl rfl sX17_expression okX17_expression g_1 (one14.k g_1) rfl rfl) w (fun v_26 h_24 _ _ _ w => ?_)
      obtain ⟨g_27, w⟩ := w
      obtain ⟨g_28, w⟩ := w
      refine jw_aast' (pc' := 64) rfl rfl rfl rfl rfl rfl g_27 g_28 (fun h_29 e_30 => ?_)
      replace w := w h_29 e_30
      refine jw_aload_n (pc' := 65) rfl rfl ?_
      refine jw_getR (pc' := 68) (F := 79) (t' := 15) rfl rfl rfl rfl rfl g_1 ?_
      refine jw_ldcwS (pc' := 71) rfl rfl rfl rfl ?_
      obtain ⟨g_31, w⟩ := w
      refine jw_cV (st := []) (sa := [vR 15 (jfr h_29 79 r0), vR 51 (jcs D 110)]) okX18_needWord rfl rfl rfl rfl rfl rfl (jstp_virtual (sa := [vR 51 (jcs D 110)]) (st := []) (k := 0) rfl rfl sX18_needWord okX18_needWord g_31 (one15.k g_31) rfl rfl) w (fun h_32 _ _ w => ?_)
      refine jw_aload_n (pc' := 75) rfl rfl ?_
      refine jw_iload_n (pc' := 76) rfl rfl ?_
      refine jw_iconst (pc' := 77) (x := (1 : Int32)) rfl rfl ?_
      refine jw_iadd (pc' := 78) rfl ?_
      refine jw_aload_n (pc' := 79) rfl rfl ?_
      refine jw_cR (st := [vI (x2 + (1 : Int32)), vR 222 r1]) (sa := [vR 14 r0]) okX17_expression rfl rfl rfl rfl rfl rfl (jstp_virtual (sa := []) (st := [vI (x2 + (1 : Int32)), vR 222 r1]) (k := 0) rfl rfl sX17_expression okX17_expression g_1 (one14.k g_1) rfl rfl) w (fun v_37 h_35 _ _ _ w => ?_)
      obtain ⟨g_38, w⟩ := w
      refine jw_aast' (pc' := 83) rfl rfl rfl rfl rfl rfl g_27 g_38 (fun h_39 e_40 => ?_)
      replace w := w h_39 e_40
      refine jw_iinc (pc' := 86) (y := x2 + (2 : Int32)) (ls' := [some (vR 14 r0), some (vR 222 r1), some (vI (x2 + (2 : Int32)))]) rfl (by decide) rfl rfl rfl ?_
      refine jw_goto (pc' := 26) rfl rfl ?_
      exact hK26 _ _ _ _ w
    · replace w := w.2 c_19
      refine jw_aload_n (pc' := 46) rfl rfl ?_
      refine jw_cR (st := []) (sa := [vR 14 r0]) okX17_broken rfl rfl rfl rfl rfl rfl (jstp_virtual (sa := []) (st := []) (k := 0) rfl rfl sX17_broken okX17_broken g_1 (one14.k g_1) rfl rfl) w (fun v_43 h_41 _ _ _ w => ?_)
      obtain ⟨g_44, w⟩ := w
      exact jw_athrow rfl rfl g_44 w
def L_X17_cases_26 (D : JD) (d : Nat) (Q : JO → JH → Prop) : Nat → Nat → Nat → Int32 → JH → Prop
  | 0 => fun _ _ _ _ => False
  | n + 1 => fun r0 r1 x2 h => W_X17_cases_26 D d Q (L_X17_cases_26 D d Q n) r0 r1 x2 h
theorem l_X17_cases_26 {D : JD} {d : Nat} {Q : JO → JH → Prop} : ∀ (n : Nat) (r0 : Nat) (r1 : Nat) (x2 : Int32) (h : JH), L_X17_cases_26 D d Q n r0 r1 x2 h → JW D (d + 1) mX17_cases 26 [some (vR 14 r0), some (vR 222 r1), some (vI x2)] [] h Q := by
  intro n
  induction n with
  | zero => intro _ _ _ _ w; exact w.elim
  | succ n ih => intro _ _ _ h w; exact w_X17_cases_26 ih w
def W_X17_cases_0 (D : JD) (d : Nat) (Q : JO → JH → Prop) (r0 : Nat) (h : JH) : Prop :=
  ∀ (r_1 : Nat) (h_2 : JH), r_1 = jsz h + 1 → h_2 = nwa h 222 40 → (r0 ≠ 0 ∧ ((jfr h_2 79 r0) ≠ 0 ∧ (cX18_isWord D d (jfr h_2 79 r0) (jcs D 109) h_2 (pI D h_2 (fun v_9 h_7 => (¬ v_9 = 0 → ∃ n, L_X17_cases_26 D d Q n r0 r_1 (0 : Int32) h_7) ∧ (v_9 = 0 → cX17_broken D d r0 h_7 (pR D h_7 9 (fun v_13 h_11 => v_13 ≠ 0 ∧ (Q (.inr v_13) h_11)) (jth Q)))) (jth Q)))))
theorem w_X17_cases_0 {D : JD} {d : Nat} {Q : JO → JH → Prop} {r0 : Nat} {h : JH} (w : W_X17_cases_0 D d Q r0 h) : JW D (d + 1) mX17_cases 0 [some (vR 14 r0), none, none] [] h Q := by
  unfold W_X17_cases_0 at w
  refine jw_bipush (pc' := 2) (x := (40 : Int32)) rfl rfl ?_
  refine jw_anew' (pc' := 5) (n := 40) (k := 222) rfl rfl rfl rfl rfl rfl rfl (jtb_mem (c := 1) (i := 180) rfl) ⟨by decide, rfl⟩ rfl (fun r_1 h_2 e_3 e_4 => ?_)
  replace w := w r_1 h_2 e_3 e_4
  refine jw_astore_n (pc' := 6) (ls' := [some (vR 14 r0), some (vR 222 r_1), none]) rfl (by decide) rfl ?_
  refine jw_iconst (pc' := 7) (x := (0 : Int32)) rfl rfl ?_
  refine jw_istore_n (pc' := 8) (ls' := [some (vR 14 r0), some (vR 222 r_1), some (vI (0 : Int32))]) rfl (by decide) rfl ?_
  refine jw_aload_n (pc' := 9) rfl rfl ?_
  obtain ⟨g_5, w⟩ := w
  refine jw_getR (pc' := 12) (F := 79) (t' := 15) rfl rfl rfl rfl rfl g_5 ?_
  refine jw_ldcwS (pc' := 15) rfl rfl rfl rfl ?_
  obtain ⟨g_6, w⟩ := w
  refine jw_cI (st := []) (sa := [vR 15 (jfr h_2 79 r0), vR 51 (jcs D 109)]) okX18_isWord rfl rfl rfl rfl rfl rfl (jstp_virtual (sa := [vR 51 (jcs D 109)]) (st := []) (k := 0) rfl rfl sX18_isWord okX18_isWord g_6 (one15.k g_6) rfl rfl) w (fun v_9 h_7 _ _ w => ?_)
  refine jw_if_ne (tgt := 26) (pc' := 21) rfl rfl (fun c_10 => ?_) (fun c_10 => ?_)
  · replace w := w.1 c_10
    obtain ⟨n, w⟩ := w
    exact l_X17_cases_26 n _ _ _ _ w
  · replace w := w.2 c_10
    refine jw_aload_n (pc' := 22) rfl rfl ?_
    refine jw_cR (st := []) (sa := [vR 14 r0]) okX17_broken rfl rfl rfl rfl rfl rfl (jstp_virtual (sa := []) (st := []) (k := 0) rfl rfl sX17_broken okX17_broken g_5 (one14.k g_5) rfl rfl) w (fun v_13 h_11 _ _ _ w => ?_)
    obtain ⟨g_14, w⟩ := w
    exact jw_athrow rfl rfl g_14 w
def T_X17_cases (D : JD) (d : Nat) (Q : JO → JH → Prop) (r0 : Nat) (h : JH) : Prop := W_X17_cases_0 D d Q r0 h
theorem t_X17_cases {D : JD} {d : Nat} {Q : JO → JH → Prop} {r0 : Nat} {h : JH} (w : T_X17_cases D d Q r0 h) : cX17_cases D (d + 1) r0 h Q := by
  unfold T_X17_cases at w
  unfold cX17_cases
  exact w_X17_cases_0 w
def W_X17_call_116 (D : JD) (d : Nat) (Q : JO → JH → Prop) (q0 : Nat) (h : JH) : Prop :=
  Q (.inl (some (vR 55 q0))) h
theorem w_X17_call_116 {D : JD} {d : Nat} {Q : JO → JH → Prop} {q0 : Nat} {h : JH} (w : W_X17_call_116 D d Q q0 h) : JW D (d + 1) mX17_call 116 [none, none, none, none, none] [vR 56 q0] h Q := by
  unfold W_X17_call_116 at w
  exact jw_areturn rfl rfl rfl rfl rfl w
def W_X17_call_91 (D : JD) (d : Nat) (Q : JO → JH → Prop) (r1 : Nat) (r2 : Nat) (x3 : Int32) (x4 : Int32) (h : JH) : Prop :=
  ∀ (r_1 : Nat) (h_2 : JH), r_1 = jsz h + 1 → h_2 = nwo h 22 7 → (cX28_init D d r_1 r1 r2 x3 x4 h_2 (pV D h_2 (fun h_5 => W_X17_call_116 D d Q r_1 h_5) (jth Q)))
theorem w_X17_call_91 {D : JD} {d : Nat} {Q : JO → JH → Prop} {r1 : Nat} {r2 : Nat} {x3 : Int32} {x4 : Int32} {h : JH} (w : W_X17_call_91 D d Q r1 r2 x3 x4 h) : JW D (d + 1) mX17_call 91 [none, some (vR 64 r1), some (vR 222 r2), some (vI x3), some (vI x4)] [] h Q := by
  unfold W_X17_call_91 at w
  refine jw_new' (pc' := 94) (k := 22) (n := 7) rfl rfl rfl rfl rfl rfl rfl (fun r_1 h_2 e_3 e_4 => ?_)
  replace w := w r_1 h_2 e_3 e_4
  refine jw_dup (pc' := 95) rfl rfl ?_
  refine jw_aload_n (pc' := 96) rfl rfl ?_
  refine jw_aload_n (pc' := 97) rfl rfl ?_
  refine jw_iload_n (pc' := 98) rfl rfl ?_
  refine jw_iload (pc' := 100) rfl rfl ?_
  refine jw_cV (st := [vR 22 r_1]) (sa := [vR 22 r_1, vR 64 r1, vR 222 r2, vI x3, vI x4]) okX28_init rfl rfl rfl rfl rfl rfl (jstp_init (sa := [vR 64 r1, vR 222 r2, vI x3, vI x4]) (st := [vR 22 r_1]) rfl rfl sX28_init okX28_init (lw_g (jtb_mem (c := 7) (i := 228) rfl) rfl) (jnz e_3) rfl rfl) w (fun h_5 _ _ w => ?_)
  refine jw_goto (pc' := 116) rfl rfl ?_
  refine jw_gen (ls' := [none, none, none, none, none]) (st' := [vR 56 r_1]) (trivial) (And.intro (Or.inr ⟨_, _, _, rfl, rfl, Or.inr (Or.inl rfl)⟩) (trivial)) ?_
  exact w_X17_call_116 w
def W_X17_call_70 (D : JD) (d : Nat) (Q : JO → JH → Prop) (r0 : Nat) (r1 : Nat) (r2 : Nat) (x3 : Int32) (x4 : Int32) (h : JH) : Prop :=
  r0 ≠ 0 ∧ ((jfr h 79 r0) ≠ 0 ∧ (cX18_need D d (jfr h 79 r0) (jcs D 101) h (pV D h (fun h_3 => (¬ x4 = 0 → W_X17_call_91 D d Q r1 r2 x3 x4 h_3) ∧ (x4 = 0 → cX28_known D d r1 h_3 (pI D h_3 (fun v_9 h_7 => (v_9 = 0 → ∀ (r_11 : Nat) (h_12 : JH), r_11 = jsz h_7 + 1 → h_12 = nwo h_7 23 5 → (cX29_init D d r_11 r1 r2 x3 h_12 (pV D h_12 (fun h_15 => W_X17_call_116 D d Q r_11 h_15) (jth Q)))) ∧ (¬ v_9 = 0 → W_X17_call_91 D d Q r1 r2 x3 x4 h_7)) (jth Q)))) (jth Q))))
theorem w_X17_call_70 {D : JD} {d : Nat} {Q : JO → JH → Prop} {r0 : Nat} {r1 : Nat} {r2 : Nat} {x3 : Int32} {x4 : Int32} {h : JH} (w : W_X17_call_70 D d Q r0 r1 r2 x3 x4 h) : JW D (d + 1) mX17_call 70 [some (vR 14 r0), some (vR 64 r1), some (vR 222 r2), some (vI x3), some (vI x4)] [] h Q := by
  unfold W_X17_call_70 at w
  refine jw_aload_n (pc' := 71) rfl rfl ?_
  obtain ⟨g_1, w⟩ := w
  refine jw_getR (pc' := 74) (F := 79) (t' := 15) rfl rfl rfl rfl rfl g_1 ?_
  refine jw_ldcS (pc' := 76) rfl rfl rfl rfl ?_
  obtain ⟨g_2, w⟩ := w
  refine jw_cV (st := []) (sa := [vR 15 (jfr h 79 r0), vR 51 (jcs D 101)]) okX18_need rfl rfl rfl rfl rfl rfl (jstp_virtual (sa := [vR 51 (jcs D 101)]) (st := []) (k := 0) rfl rfl sX18_need okX18_need g_2 (one15.k g_2) rfl rfl) w (fun h_3 _ _ w => ?_)
  refine jw_iload (pc' := 81) rfl rfl ?_
  refine jw_if_ne (tgt := 91) (pc' := 84) rfl rfl (fun c_6 => ?_) (fun c_6 => ?_)
  · replace w := w.1 c_6
    refine jw_gen (ls' := [none, some (vR 64 r1), some (vR 222 r2), some (vI x3), some (vI x4)]) (st' := []) (And.intro (Or.inl rfl) (And.intro (Or.inl rfl) (And.intro (Or.inl rfl) (And.intro (Or.inl rfl) (trivial))))) (trivial) ?_
    exact w_X17_call_91 w
  · replace w := w.2 c_6
    refine jw_aload_n (pc' := 85) rfl rfl ?_
    refine jw_cI (st := []) (sa := [vR 64 r1]) okX28_known rfl rfl rfl rfl rfl rfl (jstp_static (sa := [vR 64 r1]) (st := []) rfl rfl sX28_known okX28_known rfl rfl) w (fun v_9 h_7 _ _ w => ?_)
    refine jw_if_eq (tgt := 106) (pc' := 91) rfl rfl (fun c_10 => ?_) (fun c_10 => ?_)
    · replace w := w.1 c_10
      refine jw_new' (pc' := 109) (k := 23) (n := 5) rfl rfl rfl rfl rfl rfl rfl (fun r_11 h_12 e_13 e_14 => ?_)
      replace w := w r_11 h_12 e_13 e_14
      refine jw_dup (pc' := 110) rfl rfl ?_
      refine jw_aload_n (pc' := 111) rfl rfl ?_
      refine jw_aload_n (pc' := 112) rfl rfl ?_
      refine jw_iload_n (pc' := 113) rfl rfl ?_
      refine jw_cV (st := [vR 23 r_11]) (sa := [vR 23 r_11, vR 64 r1, vR 222 r2, vI x3]) okX29_init rfl rfl rfl rfl rfl rfl (jstp_init (sa := [vR 64 r1, vR 222 r2, vI x3]) (st := [vR 23 r_11]) rfl rfl sX29_init okX29_init (lw_g (jtb_mem (c := 8) (i := 10) rfl) rfl) (jnz e_13) rfl rfl) w (fun h_15 _ _ w => ?_)
      refine jw_gen (ls' := [none, none, none, none, none]) (st' := [vR 56 r_11]) (trivial) (And.intro (Or.inr ⟨_, _, _, rfl, rfl, Or.inr (Or.inl rfl)⟩) (trivial)) ?_
      exact w_X17_call_116 w
    · replace w := w.2 c_10
      refine jw_gen (ls' := [none, some (vR 64 r1), some (vR 222 r2), some (vI x3), some (vI x4)]) (st' := []) (And.intro (Or.inl rfl) (And.intro (Or.inl rfl) (And.intro (Or.inl rfl) (And.intro (Or.inl rfl) (trivial))))) (trivial) ?_
      exact w_X17_call_91 w
def W_X17_call_37 (D : JD) (d : Nat) (Q : JO → JH → Prop) (K37 : Nat → Nat → Nat → Int32 → Int32 → JH → Prop) (r0 : Nat) (r1 : Nat) (r2 : Nat) (x3 : Int32) (x4 : Int32) (h : JH) : Prop :=
  (¬ x3 = (8 : Int32) → r0 ≠ 0 ∧ (cX17_expression D d r0 h (pR D h 55 (fun v_5 h_3 => r2 ≠ 0 ∧ jin x3 (jln h_3 r2) ∧ ∀ h_8 : JH, h_8 = war h_3 r2 (ixn x3) v_5 → ((jfr h_8 79 r0) ≠ 0 ∧ (cX18_takes D d (jfr h_8 79 r0) (jcs D 100) h_8 (pI D h_8 (fun v_13 h_11 => (¬ v_13 = 0 → K37 r0 r1 r2 (x3 + (1 : Int32)) x4 h_11) ∧ (v_13 = 0 → W_X17_call_70 D d Q r0 r1 r2 (x3 + (1 : Int32)) x4 h_11)) (jth Q))))) (jth Q)))) ∧ (x3 = (8 : Int32) → r0 ≠ 0 ∧ (cX17_broken D d r0 h (pR D h 9 (fun v_18 h_16 => v_18 ≠ 0 ∧ (Q (.inr v_18) h_16)) (jth Q))))
theorem w_X17_call_37 {D : JD} {d : Nat} {Q : JO → JH → Prop} {K37 : Nat → Nat → Nat → Int32 → Int32 → JH → Prop} {r0 : Nat} {r1 : Nat} {r2 : Nat} {x3 : Int32} {x4 : Int32} {h : JH} (hK37 : ∀ (r0 : Nat) (r1 : Nat) (r2 : Nat) (x3 : Int32) (x4 : Int32) (h : JH), K37 r0 r1 r2 x3 x4 h → JW D (d + 1) mX17_call 37 [some (vR 14 r0), some (vR 64 r1), some (vR 222 r2), some (vI x3), some (vI x4)] [] h Q) (w : W_X17_call_37 D d Q K37 r0 r1 r2 x3 x4 h) : JW D (d + 1) mX17_call 37 [some (vR 14 r0), some (vR 64 r1), some (vR 222 r2), some (vI x3), some (vI x4)] [] h Q := by
  unfold W_X17_call_37 at w
  refine jw_iload_n (pc' := 38) rfl rfl ?_
  refine jw_bipush (pc' := 40) (x := (8 : Int32)) rfl rfl ?_
  refine jw_icmp_ne (tgt := 48) (pc' := 43) rfl rfl (fun c_1 => ?_) (fun c_1 => ?_)
  · replace w := w.1 c_1
    refine jw_aload_n (pc' := 49) rfl rfl ?_
    refine jw_iload_n (pc' := 50) rfl rfl ?_
    refine jw_aload_n (pc' := 51) rfl rfl ?_
    obtain ⟨g_2, w⟩ := w
    refine jw_cR (st := [vI x3, vR 222 r2]) (sa := [vR 14 r0]) okX17_expression rfl rfl rfl rfl rfl rfl (jstp_virtual (sa := []) (st := [vI x3, vR 222 r2]) (k := 0) rfl rfl sX17_expression okX17_expression g_2 (one14.k g_2) rfl rfl) w (fun v_5 h_3 _ _ _ w => ?_)
    obtain ⟨g_6, w⟩ := w
    obtain ⟨g_7, w⟩ := w
    refine jw_aast' (pc' := 55) rfl rfl rfl rfl rfl rfl g_6 g_7 (fun h_8 e_9 => ?_)
    replace w := w h_8 e_9
    refine jw_iinc (pc' := 58) (y := x3 + (1 : Int32)) (ls' := [some (vR 14 r0), some (vR 64 r1), some (vR 222 r2), some (vI (x3 + (1 : Int32))), some (vI x4)]) rfl (by decide) rfl rfl rfl ?_
    refine jw_aload_n (pc' := 59) rfl rfl ?_
    refine jw_getR (pc' := 62) (F := 79) (t' := 15) rfl rfl rfl rfl rfl g_2 ?_
    refine jw_ldcS (pc' := 64) rfl rfl rfl rfl ?_
    obtain ⟨g_10, w⟩ := w
    refine jw_cI (st := []) (sa := [vR 15 (jfr h_8 79 r0), vR 51 (jcs D 100)]) okX18_takes rfl rfl rfl rfl rfl rfl (jstp_virtual (sa := [vR 51 (jcs D 100)]) (st := []) (k := 0) rfl rfl sX18_takes okX18_takes g_10 (one15.k g_10) rfl rfl) w (fun v_13 h_11 _ _ w => ?_)
    refine jw_if_ne (tgt := 37) (pc' := 70) rfl rfl (fun c_14 => ?_) (fun c_14 => ?_)
    · replace w := w.1 c_14
      exact hK37 _ _ _ _ _ _ w
    · replace w := w.2 c_14
      exact w_X17_call_70 w
  · replace w := w.2 c_1
    refine jw_aload_n (pc' := 44) rfl rfl ?_
    obtain ⟨g_15, w⟩ := w
    refine jw_cR (st := []) (sa := [vR 14 r0]) okX17_broken rfl rfl rfl rfl rfl rfl (jstp_virtual (sa := []) (st := []) (k := 0) rfl rfl sX17_broken okX17_broken g_15 (one14.k g_15) rfl rfl) w (fun v_18 h_16 _ _ _ w => ?_)
    obtain ⟨g_19, w⟩ := w
    exact jw_athrow rfl rfl g_19 w
def L_X17_call_37 (D : JD) (d : Nat) (Q : JO → JH → Prop) : Nat → Nat → Nat → Nat → Int32 → Int32 → JH → Prop
  | 0 => fun _ _ _ _ _ _ => False
  | n + 1 => fun r0 r1 r2 x3 x4 h => W_X17_call_37 D d Q (L_X17_call_37 D d Q n) r0 r1 r2 x3 x4 h
theorem l_X17_call_37 {D : JD} {d : Nat} {Q : JO → JH → Prop} : ∀ (n : Nat) (r0 : Nat) (r1 : Nat) (r2 : Nat) (x3 : Int32) (x4 : Int32) (h : JH), L_X17_call_37 D d Q n r0 r1 r2 x3 x4 h → JW D (d + 1) mX17_call 37 [some (vR 14 r0), some (vR 64 r1), some (vR 222 r2), some (vI x3), some (vI x4)] [] h Q := by
  intro n
  induction n with
  | zero => intro _ _ _ _ _ _ w; exact w.elim
  | succ n ih => intro _ _ _ _ _ h w; exact w_X17_call_37 ih w
def W_X17_call_0 (D : JD) (d : Nat) (Q : JO → JH → Prop) (r0 : Nat) (r1 : Nat) (h : JH) : Prop :=
  ∀ (r_1 : Nat) (h_2 : JH), r_1 = jsz h + 1 → h_2 = nwa h 222 8 → (r0 ≠ 0 ∧ ((jfr h_2 79 r0) ≠ 0 ∧ (cX18_takes D d (jfr h_2 79 r0) (jcs D 113) h_2 (pI D h_2 (fun v_9 h_7 => (¬ v_9 = 0 → W_X17_call_70 D d Q r0 r1 r_1 (0 : Int32) v_9 h_7) ∧ (v_9 = 0 → (jfr h_7 79 r0) ≠ 0 ∧ (cX18_is D d (jfr h_7 79 r0) (jcs D 101) h_7 (pI D h_7 (fun v_14 h_12 => (¬ v_14 = 0 → W_X17_call_70 D d Q r0 r1 r_1 (0 : Int32) v_9 h_12) ∧ (v_14 = 0 → ∃ n, L_X17_call_37 D d Q n r0 r1 r_1 (0 : Int32) v_9 h_12)) (jth Q))))) (jth Q)))))
theorem w_X17_call_0 {D : JD} {d : Nat} {Q : JO → JH → Prop} {r0 : Nat} {r1 : Nat} {h : JH} (w : W_X17_call_0 D d Q r0 r1 h) : JW D (d + 1) mX17_call 0 [some (vR 14 r0), some (vR 64 r1), none, none, none] [] h Q := by
  unfold W_X17_call_0 at w
  refine jw_bipush (pc' := 2) (x := (8 : Int32)) rfl rfl ?_
  refine jw_anew' (pc' := 5) (n := 8) (k := 222) rfl rfl rfl rfl rfl rfl rfl (jtb_mem (c := 1) (i := 180) rfl) ⟨by decide, rfl⟩ rfl (fun r_1 h_2 e_3 e_4 => ?_)
  replace w := w r_1 h_2 e_3 e_4
  refine jw_astore_n (pc' := 6) (ls' := [some (vR 14 r0), some (vR 64 r1), some (vR 222 r_1), none, none]) rfl (by decide) rfl ?_
  refine jw_iconst (pc' := 7) (x := (0 : Int32)) rfl rfl ?_
  refine jw_istore_n (pc' := 8) (ls' := [some (vR 14 r0), some (vR 64 r1), some (vR 222 r_1), some (vI (0 : Int32)), none]) rfl (by decide) rfl ?_
  refine jw_aload_n (pc' := 9) rfl rfl ?_
  obtain ⟨g_5, w⟩ := w
  refine jw_getR (pc' := 12) (F := 79) (t' := 15) rfl rfl rfl rfl rfl g_5 ?_
  refine jw_ldcwS (pc' := 15) rfl rfl rfl rfl ?_
  obtain ⟨g_6, w⟩ := w
  refine jw_cI (st := []) (sa := [vR 15 (jfr h_2 79 r0), vR 51 (jcs D 113)]) okX18_takes rfl rfl rfl rfl rfl rfl (jstp_virtual (sa := [vR 51 (jcs D 113)]) (st := []) (k := 0) rfl rfl sX18_takes okX18_takes g_6 (one15.k g_6) rfl rfl) w (fun v_9 h_7 _ _ w => ?_)
  refine jw_istore (pc' := 20) (ls' := [some (vR 14 r0), some (vR 64 r1), some (vR 222 r_1), some (vI (0 : Int32)), some (vI v_9)]) rfl (by decide) rfl ?_
  refine jw_iload (pc' := 22) rfl rfl ?_
  refine jw_if_ne (tgt := 70) (pc' := 25) rfl rfl (fun c_10 => ?_) (fun c_10 => ?_)
  · replace w := w.1 c_10
    exact w_X17_call_70 w
  · replace w := w.2 c_10
    refine jw_aload_n (pc' := 26) rfl rfl ?_
    refine jw_getR (pc' := 29) (F := 79) (t' := 15) rfl rfl rfl rfl rfl g_5 ?_
    refine jw_ldcS (pc' := 31) rfl rfl rfl rfl ?_
    obtain ⟨g_11, w⟩ := w
    refine jw_cI (st := []) (sa := [vR 15 (jfr h_7 79 r0), vR 51 (jcs D 101)]) okX18_is rfl rfl rfl rfl rfl rfl (jstp_virtual (sa := [vR 51 (jcs D 101)]) (st := []) (k := 0) rfl rfl sX18_is okX18_is g_11 (one15.k g_11) rfl rfl) w (fun v_14 h_12 _ _ w => ?_)
    refine jw_if_ne (tgt := 70) (pc' := 37) rfl rfl (fun c_15 => ?_) (fun c_15 => ?_)
    · replace w := w.1 c_15
      exact w_X17_call_70 w
    · replace w := w.2 c_15
      obtain ⟨n, w⟩ := w
      exact l_X17_call_37 n _ _ _ _ _ _ w
def T_X17_call (D : JD) (d : Nat) (Q : JO → JH → Prop) (r0 : Nat) (r1 : Nat) (h : JH) : Prop := W_X17_call_0 D d Q r0 r1 h
theorem t_X17_call {D : JD} {d : Nat} {Q : JO → JH → Prop} {r0 : Nat} {r1 : Nat} {h : JH} (w : T_X17_call D d Q r0 r1 h) : cX17_call D (d + 1) r0 r1 h Q := by
  unfold T_X17_call at w
  unfold cX17_call
  exact w_X17_call_0 w
def W_X17_operator_0 (D : JD) (d : Nat) (Q : JO → JH → Prop) (r0 : Nat) (h : JH) : Prop :=
  r0 ≠ 0 ∧ ((¬ (jfi h 81 r0) = (300 : Int32) → ∀ h_3 : JH, h_3 = wfi h 81 r0 ((jfi h 81 r0) + (1 : Int32)) → ((jfr h_3 79 r0) ≠ 0 ∧ (cX18_next D d (jfr h_3 79 r0) h_3 (pV D h_3 (fun h_6 => Q (.inl none) h_6) (jth Q))))) ∧ ((jfi h 81 r0) = (300 : Int32) → cX17_broken D d r0 h (pR D h 9 (fun v_11 h_9 => v_11 ≠ 0 ∧ (Q (.inr v_11) h_9)) (jth Q))))
theorem w_X17_operator_0 {D : JD} {d : Nat} {Q : JO → JH → Prop} {r0 : Nat} {h : JH} (w : W_X17_operator_0 D d Q r0 h) : JW D (d + 1) mX17_operator 0 [some (vR 14 r0)] [] h Q := by
  unfold W_X17_operator_0 at w
  refine jw_aload_n (pc' := 1) rfl rfl ?_
  obtain ⟨g_1, w⟩ := w
  refine jw_getI (pc' := 4) (F := 81) rfl rfl rfl rfl g_1 ?_
  refine jw_sipush (pc' := 7) (x := (300 : Int32)) rfl rfl ?_
  refine jw_icmp_ne (tgt := 15) (pc' := 10) rfl rfl (fun c_2 => ?_) (fun c_2 => ?_)
  · replace w := w.1 c_2
    refine jw_aload_n (pc' := 16) rfl rfl ?_
    refine jw_dup (pc' := 17) rfl rfl ?_
    refine jw_getI (pc' := 20) (F := 81) rfl rfl rfl rfl g_1 ?_
    refine jw_iconst (pc' := 21) (x := (1 : Int32)) rfl rfl ?_
    refine jw_iadd (pc' := 22) rfl ?_
    refine jw_putI' (pc' := 25) (F := 81) rfl rfl rfl (Or.inr rfl) (Or.inl rfl) rfl (rfl) (rfl) rfl g_1 (fun h_3 e_4 => ?_)
    replace w := w h_3 e_4
    refine jw_aload_n (pc' := 26) rfl rfl ?_
    refine jw_getR (pc' := 29) (F := 79) (t' := 15) rfl rfl rfl rfl rfl g_1 ?_
    obtain ⟨g_5, w⟩ := w
    refine jw_cV (st := []) (sa := [vR 15 (jfr h_3 79 r0)]) okX18_next rfl rfl rfl rfl rfl rfl (jstp_virtual (sa := []) (st := []) (k := 0) rfl rfl sX18_next okX18_next g_5 (one15.k g_5) rfl rfl) w (fun h_6 _ _ w => ?_)
    exact jw_return rfl rfl w
  · replace w := w.2 c_2
    refine jw_aload_n (pc' := 11) rfl rfl ?_
    refine jw_cR (st := []) (sa := [vR 14 r0]) okX17_broken rfl rfl rfl rfl rfl rfl (jstp_virtual (sa := []) (st := []) (k := 0) rfl rfl sX17_broken okX17_broken g_1 (one14.k g_1) rfl rfl) w (fun v_11 h_9 _ _ _ w => ?_)
    obtain ⟨g_12, w⟩ := w
    exact jw_athrow rfl rfl g_12 w
def T_X17_operator (D : JD) (d : Nat) (Q : JO → JH → Prop) (r0 : Nat) (h : JH) : Prop := W_X17_operator_0 D d Q r0 h
theorem t_X17_operator {D : JD} {d : Nat} {Q : JO → JH → Prop} {r0 : Nat} {h : JH} (w : T_X17_operator D d Q r0 h) : cX17_operator D (d + 1) r0 h Q := by
  unfold T_X17_operator at w
  unfold cX17_operator
  exact w_X17_operator_0 w
def W_X17_comparison_154 (D : JD) (d : Nat) (Q : JO → JH → Prop) (x2 : Int32) (h : JH) : Prop :=
  (x2 = (0 : Int32) → Q (.inl (some (vR 54 (jcs D 364)))) h) ∧ (x2 = (1 : Int32) → Q (.inl (some (vR 54 (jcs D 365)))) h) ∧ (x2 = (2 : Int32) → Q (.inl (some (vR 54 (jcs D 366)))) h) ∧ (x2 = (3 : Int32) → Q (.inl (some (vR 54 (jcs D 367)))) h) ∧ (x2 = (4 : Int32) → Q (.inl (some (vR 54 (jcs D 368)))) h) ∧ (x2 = (5 : Int32) → Q (.inl (some (vR 54 (jcs D 369)))) h) ∧ (¬ x2 = (0 : Int32) → ¬ x2 = (1 : Int32) → ¬ x2 = (2 : Int32) → ¬ x2 = (3 : Int32) → ¬ x2 = (4 : Int32) → ¬ x2 = (5 : Int32) → Q (.inl (some (vR 54 0))) h)
theorem w_X17_comparison_154 {D : JD} {d : Nat} {Q : JO → JH → Prop} {x2 : Int32} {h : JH} (w : W_X17_comparison_154 D d Q x2 h) : JW D (d + 1) mX17_comparison 154 [none, none, some (vI x2)] [] h Q := by
  unfold W_X17_comparison_154 at w
  refine jw_iload_n (pc' := 155) rfl rfl ?_
  refine jw_tsw (cs := [((0 : Int32), 192), ((1 : Int32), 196), ((2 : Int32), 200), ((3 : Int32), 204), ((4 : Int32), 208), ((5 : Int32), 212)]) (dt := 216) rfl (by decide +kernel) ?_
  by_cases c_1 : x2 = (0 : Int32)
  · rw [jsw_hit c_1]
    replace w := w.1 c_1
    refine jw_getsR (pc' := 195) rfl rfl rfl rfl ?_
    exact jw_areturn rfl rfl rfl rfl rfl w
  · rw [jsw_miss c_1]
    replace w := w.2
    by_cases c_2 : x2 = (1 : Int32)
    · rw [jsw_hit c_2]
      replace w := w.1 c_2
      refine jw_getsR (pc' := 199) rfl rfl rfl rfl ?_
      exact jw_areturn rfl rfl rfl rfl rfl w
    · rw [jsw_miss c_2]
      replace w := w.2
      by_cases c_3 : x2 = (2 : Int32)
      · rw [jsw_hit c_3]
        replace w := w.1 c_3
        refine jw_getsR (pc' := 203) rfl rfl rfl rfl ?_
        exact jw_areturn rfl rfl rfl rfl rfl w
      · rw [jsw_miss c_3]
        replace w := w.2
        by_cases c_4 : x2 = (3 : Int32)
        · rw [jsw_hit c_4]
          replace w := w.1 c_4
          refine jw_getsR (pc' := 207) rfl rfl rfl rfl ?_
          exact jw_areturn rfl rfl rfl rfl rfl w
        · rw [jsw_miss c_4]
          replace w := w.2
          by_cases c_5 : x2 = (4 : Int32)
          · rw [jsw_hit c_5]
            replace w := w.1 c_5
            refine jw_getsR (pc' := 211) rfl rfl rfl rfl ?_
            exact jw_areturn rfl rfl rfl rfl rfl w
          · rw [jsw_miss c_5]
            replace w := w.2
            by_cases c_6 : x2 = (5 : Int32)
            · rw [jsw_hit c_6]
              replace w := w.1 c_6
              refine jw_getsR (pc' := 215) rfl rfl rfl rfl ?_
              exact jw_areturn rfl rfl rfl rfl rfl w
            · rw [jsw_miss c_6]
              replace w := w.2
              rw [jsw_nil]
              replace w := w c_1 c_2 c_3 c_4 c_5 c_6
              refine jw_null (pc' := 217) (t := 54) rfl ?_
              exact jw_areturn rfl rfl rfl rfl rfl w
def W_X17_comparison_0 (D : JD) (d : Nat) (Q : JO → JH → Prop) (r0 : Nat) (h : JH) : Prop :=
  r0 ≠ 0 ∧ (cJ5_hashCode D d r0 h (pI D h (fun v_4 h_2 => (v_4 = (60 : Int32) → cJ5_equals D d r0 (jcs D 126) h_2 (pI D h_2 (fun v_8 h_6 => (v_8 = 0 → W_X17_comparison_154 D d Q (-1 : Int32) h_6) ∧ (¬ v_8 = 0 → W_X17_comparison_154 D d Q (2 : Int32) h_6)) (jth Q))) ∧ (v_4 = (61 : Int32) → cJ5_equals D d r0 (jcs D 124) h_2 (pI D h_2 (fun v_13 h_11 => (v_13 = 0 → W_X17_comparison_154 D d Q (-1 : Int32) h_11) ∧ (¬ v_13 = 0 → W_X17_comparison_154 D d Q (0 : Int32) h_11)) (jth Q))) ∧ (v_4 = (62 : Int32) → cJ5_equals D d r0 (jcs D 128) h_2 (pI D h_2 (fun v_18 h_16 => (v_18 = 0 → W_X17_comparison_154 D d Q (-1 : Int32) h_16) ∧ (¬ v_18 = 0 → W_X17_comparison_154 D d Q (4 : Int32) h_16)) (jth Q))) ∧ (v_4 = (1921 : Int32) → cJ5_equals D d r0 (jcs D 127) h_2 (pI D h_2 (fun v_23 h_21 => (v_23 = 0 → W_X17_comparison_154 D d Q (-1 : Int32) h_21) ∧ (¬ v_23 = 0 → W_X17_comparison_154 D d Q (3 : Int32) h_21)) (jth Q))) ∧ (v_4 = (1922 : Int32) → cJ5_equals D d r0 (jcs D 125) h_2 (pI D h_2 (fun v_28 h_26 => (v_28 = 0 → W_X17_comparison_154 D d Q (-1 : Int32) h_26) ∧ (¬ v_28 = 0 → W_X17_comparison_154 D d Q (1 : Int32) h_26)) (jth Q))) ∧ (v_4 = (1983 : Int32) → cJ5_equals D d r0 (jcs D 129) h_2 (pI D h_2 (fun v_33 h_31 => (v_33 = 0 → W_X17_comparison_154 D d Q (-1 : Int32) h_31) ∧ (¬ v_33 = 0 → W_X17_comparison_154 D d Q (5 : Int32) h_31)) (jth Q))) ∧ (¬ v_4 = (60 : Int32) → ¬ v_4 = (61 : Int32) → ¬ v_4 = (62 : Int32) → ¬ v_4 = (1921 : Int32) → ¬ v_4 = (1922 : Int32) → ¬ v_4 = (1983 : Int32) → W_X17_comparison_154 D d Q (-1 : Int32) h_2)) (jth Q)))
theorem w_X17_comparison_0 {D : JD} {d : Nat} {Q : JO → JH → Prop} {r0 : Nat} {h : JH} (w : W_X17_comparison_0 D d Q r0 h) : JW D (d + 1) mX17_comparison 0 [some (vR 64 r0), none, none] [] h Q := by
  unfold W_X17_comparison_0 at w
  refine jw_aload_n (pc' := 1) rfl rfl ?_
  refine jw_astore_n (pc' := 2) (ls' := [some (vR 64 r0), some (vR 64 r0), none]) rfl (by decide) rfl ?_
  refine jw_iconst (pc' := 3) (x := (-1 : Int32)) rfl rfl ?_
  refine jw_istore_n (pc' := 4) (ls' := [some (vR 64 r0), some (vR 64 r0), some (vI (-1 : Int32))]) rfl (by decide) rfl ?_
  refine jw_aload_n (pc' := 5) rfl rfl ?_
  obtain ⟨g_1, w⟩ := w
  refine jw_cI (st := []) (sa := [vR 64 r0]) okJ5_hashCode rfl rfl rfl rfl rfl rfl (jstp_virtual (sa := []) (st := []) (k := 0) rfl rfl sJ5_hashCode okJ5_hashCode g_1 (one64.k g_1) rfl rfl) w (fun v_4 h_2 _ _ w => ?_)
  refine jw_lsw (cs := [((60 : Int32), 97), ((61 : Int32), 68), ((62 : Int32), 127), ((1921 : Int32), 112), ((1922 : Int32), 82), ((1983 : Int32), 142)]) (dt := 154) rfl (by decide +kernel) (by decide +kernel) ?_
  by_cases c_5 : v_4 = (60 : Int32)
  · rw [jsw_hit c_5]
    replace w := w.1 c_5
    refine jw_aload_n (pc' := 98) rfl rfl ?_
    refine jw_ldcwS (pc' := 101) rfl rfl rfl rfl ?_
    refine jw_cI (st := []) (sa := [vR 64 r0, vR 51 (jcs D 126)]) okJ5_equals rfl rfl rfl rfl rfl rfl (jstp_virtual (sa := [vR 51 (jcs D 126)]) (st := []) (k := 0) rfl rfl sJ5_equals okJ5_equals g_1 (one64.k g_1) rfl rfl) w (fun v_8 h_6 _ _ w => ?_)
    refine jw_if_eq (tgt := 154) (pc' := 107) rfl rfl (fun c_9 => ?_) (fun c_9 => ?_)
    · replace w := w.1 c_9
      refine jw_gen (ls' := [none, none, some (vI (-1 : Int32))]) (st' := []) (And.intro (Or.inl rfl) (trivial)) (trivial) ?_
      exact w_X17_comparison_154 w
    · replace w := w.2 c_9
      refine jw_iconst (pc' := 108) (x := (2 : Int32)) rfl rfl ?_
      refine jw_istore_n (pc' := 109) (ls' := [some (vR 64 r0), some (vR 64 r0), some (vI (2 : Int32))]) rfl (by decide) rfl ?_
      refine jw_goto (pc' := 154) rfl rfl ?_
      refine jw_gen (ls' := [none, none, some (vI (2 : Int32))]) (st' := []) (And.intro (Or.inl rfl) (trivial)) (trivial) ?_
      exact w_X17_comparison_154 w
  · rw [jsw_miss c_5]
    replace w := w.2
    by_cases c_10 : v_4 = (61 : Int32)
    · rw [jsw_hit c_10]
      replace w := w.1 c_10
      refine jw_aload_n (pc' := 69) rfl rfl ?_
      refine jw_ldcS (pc' := 71) rfl rfl rfl rfl ?_
      refine jw_cI (st := []) (sa := [vR 64 r0, vR 51 (jcs D 124)]) okJ5_equals rfl rfl rfl rfl rfl rfl (jstp_virtual (sa := [vR 51 (jcs D 124)]) (st := []) (k := 0) rfl rfl sJ5_equals okJ5_equals g_1 (one64.k g_1) rfl rfl) w (fun v_13 h_11 _ _ w => ?_)
      refine jw_if_eq (tgt := 154) (pc' := 77) rfl rfl (fun c_14 => ?_) (fun c_14 => ?_)
      · replace w := w.1 c_14
        refine jw_gen (ls' := [none, none, some (vI (-1 : Int32))]) (st' := []) (And.intro (Or.inl rfl) (trivial)) (trivial) ?_
        exact w_X17_comparison_154 w
      · replace w := w.2 c_14
        refine jw_iconst (pc' := 78) (x := (0 : Int32)) rfl rfl ?_
        refine jw_istore_n (pc' := 79) (ls' := [some (vR 64 r0), some (vR 64 r0), some (vI (0 : Int32))]) rfl (by decide) rfl ?_
        refine jw_goto (pc' := 154) rfl rfl ?_
        refine jw_gen (ls' := [none, none, some (vI (0 : Int32))]) (st' := []) (And.intro (Or.inl rfl) (trivial)) (trivial) ?_
        exact w_X17_comparison_154 w
    · rw [jsw_miss c_10]
      replace w := w.2
      by_cases c_15 : v_4 = (62 : Int32)
      · rw [jsw_hit c_15]
        replace w := w.1 c_15
        refine jw_aload_n (pc' := 128) rfl rfl ?_
        refine jw_ldcwS (pc' := 131) rfl rfl rfl rfl ?_
        refine jw_cI (st := []) (sa := [vR 64 r0, vR 51 (jcs D 128)]) okJ5_equals rfl rfl rfl rfl rfl rfl (jstp_virtual (sa := [vR 51 (jcs D 128)]) (st := []) (k := 0) rfl rfl sJ5_equals okJ5_equals g_1 (one64.k g_1) rfl rfl) w (fun v_18 h_16 _ _ w => ?_)
        refine jw_if_eq (tgt := 154) (pc' := 137) rfl rfl (fun c_19 => ?_) (fun c_19 => ?_)
        · replace w := w.1 c_19
          refine jw_gen (ls' := [none, none, some (vI (-1 : Int32))]) (st' := []) (And.intro (Or.inl rfl) (trivial)) (trivial) ?_
          exact w_X17_comparison_154 w
        · replace w := w.2 c_19
          refine jw_iconst (pc' := 138) (x := (4 : Int32)) rfl rfl ?_
          refine jw_istore_n (pc' := 139) (ls' := [some (vR 64 r0), some (vR 64 r0), some (vI (4 : Int32))]) rfl (by decide) rfl ?_
          refine jw_goto (pc' := 154) rfl rfl ?_
          refine jw_gen (ls' := [none, none, some (vI (4 : Int32))]) (st' := []) (And.intro (Or.inl rfl) (trivial)) (trivial) ?_
          exact w_X17_comparison_154 w
      · rw [jsw_miss c_15]
        replace w := w.2
        by_cases c_20 : v_4 = (1921 : Int32)
        · rw [jsw_hit c_20]
          replace w := w.1 c_20
          refine jw_aload_n (pc' := 113) rfl rfl ?_
          refine jw_ldcwS (pc' := 116) rfl rfl rfl rfl ?_
          refine jw_cI (st := []) (sa := [vR 64 r0, vR 51 (jcs D 127)]) okJ5_equals rfl rfl rfl rfl rfl rfl (jstp_virtual (sa := [vR 51 (jcs D 127)]) (st := []) (k := 0) rfl rfl sJ5_equals okJ5_equals g_1 (one64.k g_1) rfl rfl) w (fun v_23 h_21 _ _ w => ?_)
          refine jw_if_eq (tgt := 154) (pc' := 122) rfl rfl (fun c_24 => ?_) (fun c_24 => ?_)
          · replace w := w.1 c_24
            refine jw_gen (ls' := [none, none, some (vI (-1 : Int32))]) (st' := []) (And.intro (Or.inl rfl) (trivial)) (trivial) ?_
            exact w_X17_comparison_154 w
          · replace w := w.2 c_24
            refine jw_iconst (pc' := 123) (x := (3 : Int32)) rfl rfl ?_
            refine jw_istore_n (pc' := 124) (ls' := [some (vR 64 r0), some (vR 64 r0), some (vI (3 : Int32))]) rfl (by decide) rfl ?_
            refine jw_goto (pc' := 154) rfl rfl ?_
            refine jw_gen (ls' := [none, none, some (vI (3 : Int32))]) (st' := []) (And.intro (Or.inl rfl) (trivial)) (trivial) ?_
            exact w_X17_comparison_154 w
        · rw [jsw_miss c_20]
          replace w := w.2
          by_cases c_25 : v_4 = (1922 : Int32)
          · rw [jsw_hit c_25]
            replace w := w.1 c_25
            refine jw_aload_n (pc' := 83) rfl rfl ?_
            refine jw_ldcwS (pc' := 86) rfl rfl rfl rfl ?_
            refine jw_cI (st := []) (sa := [vR 64 r0, vR 51 (jcs D 125)]) okJ5_equals rfl rfl rfl rfl rfl rfl (jstp_virtual (sa := [vR 51 (jcs D 125)]) (st := []) (k := 0) rfl rfl sJ5_equals okJ5_equals g_1 (one64.k g_1) rfl rfl) w (fun v_28 h_26 _ _ w => ?_)
            refine jw_if_eq (tgt := 154) (pc' := 92) rfl rfl (fun c_29 => ?_) (fun c_29 => ?_)
            · replace w := w.1 c_29
              refine jw_gen (ls' := [none, none, some (vI (-1 : Int32))]) (st' := []) (And.intro (Or.inl rfl) (trivial)) (trivial) ?_
              exact w_X17_comparison_154 w
            · replace w := w.2 c_29
              refine jw_iconst (pc' := 93) (x := (1 : Int32)) rfl rfl ?_
              refine jw_istore_n (pc' := 94) (ls' := [some (vR 64 r0), some (vR 64 r0), some (vI (1 : Int32))]) rfl (by decide) rfl ?_
              refine jw_goto (pc' := 154) rfl rfl ?_
              refine jw_gen (ls' := [none, none, some (vI (1 : Int32))]) (st' := []) (And.intro (Or.inl rfl) (trivial)) (trivial) ?_
              exact w_X17_comparison_154 w
          · rw [jsw_miss c_25]
            replace w := w.2
            by_cases c_30 : v_4 = (1983 : Int32)
            · rw [jsw_hit c_30]
              replace w := w.1 c_30
              refine jw_aload_n (pc' := 143) rfl rfl ?_
              refine jw_ldcwS (pc' := 146) rfl rfl rfl rfl ?_
              refine jw_cI (st := []) (sa := [vR 64 r0, vR 51 (jcs D 129)]) okJ5_equals rfl rfl rfl rfl rfl rfl (jstp_virtual (sa := [vR 51 (jcs D 129)]) (st := []) (k := 0) rfl rfl sJ5_equals okJ5_equals g_1 (one64.k g_1) rfl rfl) w (fun v_33 h_31 _ _ w => ?_)
              refine jw_if_eq (tgt := 154) (pc' := 152) rfl rfl (fun c_34 => ?_) (fun c_34 => ?_)
              · replace w := w.1 c_34
                refine jw_gen (ls' := [none, none, some (vI (-1 : Int32))]) (st' := []) (And.intro (Or.inl rfl) (trivial)) (trivial) ?_
                exact w_X17_comparison_154 w
              · replace w := w.2 c_34
                refine jw_iconst (pc' := 153) (x := (5 : Int32)) rfl rfl ?_
                refine jw_istore_n (pc' := 154) (ls' := [some (vR 64 r0), some (vR 64 r0), some (vI (5 : Int32))]) rfl (by decide) rfl ?_
                refine jw_gen (ls' := [none, none, some (vI (5 : Int32))]) (st' := []) (And.intro (Or.inl rfl) (trivial)) (trivial) ?_
                exact w_X17_comparison_154 w
            · rw [jsw_miss c_30]
              replace w := w.2
              rw [jsw_nil]
              replace w := w c_5 c_10 c_15 c_20 c_25 c_30
              refine jw_gen (ls' := [none, none, some (vI (-1 : Int32))]) (st' := []) (And.intro (Or.inl rfl) (trivial)) (trivial) ?_
              exact w_X17_comparison_154 w
def T_X17_comparison (D : JD) (d : Nat) (Q : JO → JH → Prop) (r0 : Nat) (h : JH) : Prop := W_X17_comparison_0 D d Q r0 h
theorem t_X17_comparison {D : JD} {d : Nat} {Q : JO → JH → Prop} {r0 : Nat} {h : JH} (w : T_X17_comparison D d Q r0 h) : cX17_comparison D (d + 1) r0 h Q := by
  unfold T_X17_comparison at w
  unfold cX17_comparison
  exact w_X17_comparison_0 w
def W_X17_among_122 (D : JD) (d : Nat) (Q : JO → JH → Prop) (K122 : Nat → Nat → Int32 → JH → Prop) (r0 : Nat) (r2 : Nat) (x3 : Int32) (h : JH) : Prop :=
  (¬ x3 = (9 : Int32) → r0 ≠ 0 ∧ (cX17_expression D d r0 h (pR D h 55 (fun v_5 h_3 => r2 ≠ 0 ∧ jin x3 (jln h_3 r2) ∧ ∀ h_8 : JH, h_8 = war h_3 r2 (ixn x3) v_5 → ((jfr h_8 79 r0) ≠ 0 ∧ (cX18_takes D d (jfr h_8 79 r0) (jcs D 100) h_8 (pI D h_8 (fun v_13 h_11 => (¬ v_13 = 0 → K122 r0 r2 (x3 + (1 : Int32)) h_11) ∧ (v_13 = 0 → (jfr h_11 79 r0) ≠ 0 ∧ (cX18_need D d (jfr h_11 79 r0) (jcs D 101) h_11 (pV D h_11 (fun h_16 => ∀ (r_19 : Nat) (h_20 : JH), r_19 = jsz h_16 + 1 → h_20 = nwo h_16 29 5 → (cX35_init D d r_19 r2 (x3 + (1 : Int32)) (0 : Int32) h_20 (pV D h_20 (fun h_23 => Q (.inl (some (vR 55 r_19))) h_23) (jth Q)))) (jth Q))))) (jth Q))))) (jth Q)))) ∧ (x3 = (9 : Int32) → r0 ≠ 0 ∧ (cX17_broken D d r0 h (pR D h 9 (fun v_29 h_27 => v_29 ≠ 0 ∧ (Q (.inr v_29) h_27)) (jth Q))))
theorem w_X17_among_122 {D : JD} {d : Nat} {Q : JO → JH → Prop} {K122 : Nat → Nat → Int32 → JH → Prop} {r0 : Nat} {r2 : Nat} {x3 : Int32} {h : JH} (hK122 : ∀ (r0 : Nat) (r2 : Nat) (x3 : Int32) (h : JH), K122 r0 r2 x3 h → JW D (d + 1) mX17_among 122 [some (vR 14 r0), none, some (vR 222 r2), some (vI x3)] [] h Q) (w : W_X17_among_122 D d Q K122 r0 r2 x3 h) : JW D (d + 1) mX17_among 122 [some (vR 14 r0), none, some (vR 222 r2), some (vI x3)] [] h Q := by
  unfold W_X17_among_122 at w
  refine jw_iload_n (pc' := 123) rfl rfl ?_
  refine jw_bipush (pc' := 125) (x := (9 : Int32)) rfl rfl ?_
  refine jw_icmp_ne (tgt := 133) (pc' := 128) rfl rfl (fun c_1 => ?_) (fun c_1 => ?_)
  · replace w := w.1 c_1
    refine jw_aload_n (pc' := 134) rfl rfl ?_
    refine jw_iload_n (pc' := 135) rfl rfl ?_
    refine jw_aload_n (pc' := 136) rfl rfl ?_
    obtain ⟨g_2, w⟩ := w
    refine jw_cR (st := [vI x3, vR 222 r2]) (sa := [vR 14 r0]) okX17_expression rfl rfl rfl rfl rfl rfl (jstp_virtual (sa := []) (st := [vI x3, vR 222 r2]) (k := 0) rfl rfl sX17_expression okX17_expression g_2 (one14.k g_2) rfl rfl) w (fun v_5 h_3 _ _ _ w => ?_)
    obtain ⟨g_6, w⟩ := w
    obtain ⟨g_7, w⟩ := w
    refine jw_aast' (pc' := 140) rfl rfl rfl rfl rfl rfl g_6 g_7 (fun h_8 e_9 => ?_)
    replace w := w h_8 e_9
    refine jw_iinc (pc' := 143) (y := x3 + (1 : Int32)) (ls' := [some (vR 14 r0), none, some (vR 222 r2), some (vI (x3 + (1 : Int32)))]) rfl (by decide) rfl rfl rfl ?_
    refine jw_aload_n (pc' := 144) rfl rfl ?_
    refine jw_getR (pc' := 147) (F := 79) (t' := 15) rfl rfl rfl rfl rfl g_2 ?_
    refine jw_ldcS (pc' := 149) rfl rfl rfl rfl ?_
    obtain ⟨g_10, w⟩ := w
    refine jw_cI (st := []) (sa := [vR 15 (jfr h_8 79 r0), vR 51 (jcs D 100)]) okX18_takes rfl rfl rfl rfl rfl rfl (jstp_virtual (sa := [vR 51 (jcs D 100)]) (st := []) (k := 0) rfl rfl sX18_takes okX18_takes g_10 (one15.k g_10) rfl rfl) w (fun v_13 h_11 _ _ w => ?_)
    refine jw_if_ne (tgt := 122) (pc' := 155) rfl rfl (fun c_14 => ?_) (fun c_14 => ?_)
    · replace w := w.1 c_14
      exact hK122 _ _ _ _ w
    · replace w := w.2 c_14
      refine jw_aload_n (pc' := 156) rfl rfl ?_
      refine jw_getR (pc' := 159) (F := 79) (t' := 15) rfl rfl rfl rfl rfl g_2 ?_
      refine jw_ldcS (pc' := 161) rfl rfl rfl rfl ?_
      obtain ⟨g_15, w⟩ := w
      refine jw_cV (st := []) (sa := [vR 15 (jfr h_11 79 r0), vR 51 (jcs D 101)]) okX18_need rfl rfl rfl rfl rfl rfl (jstp_virtual (sa := [vR 51 (jcs D 101)]) (st := []) (k := 0) rfl rfl sX18_need okX18_need g_15 (one15.k g_15) rfl rfl) w (fun h_16 _ _ w => ?_)
      refine jw_new' (pc' := 167) (k := 29) (n := 5) rfl rfl rfl rfl rfl rfl rfl (fun r_19 h_20 e_21 e_22 => ?_)
      replace w := w r_19 h_20 e_21 e_22
      refine jw_dup (pc' := 168) rfl rfl ?_
      refine jw_aload_n (pc' := 169) rfl rfl ?_
      refine jw_iload_n (pc' := 170) rfl rfl ?_
      refine jw_iconst (pc' := 171) (x := (0 : Int32)) rfl rfl ?_
      refine jw_cV (st := [vR 29 r_19]) (sa := [vR 29 r_19, vR 222 r2, vI (x3 + (1 : Int32)), vI (0 : Int32)]) okX35_init rfl rfl rfl rfl rfl rfl (jstp_init (sa := [vR 222 r2, vI (x3 + (1 : Int32)), vI (0 : Int32)]) (st := [vR 29 r_19]) rfl rfl sX35_init okX35_init (lw_g (jtb_mem (c := 8) (i := 168) rfl) rfl) (jnz e_21) rfl rfl) w (fun h_23 _ _ w => ?_)
      exact jw_areturn rfl rfl rfl rfl rfl w
  · replace w := w.2 c_1
    refine jw_aload_n (pc' := 129) rfl rfl ?_
    obtain ⟨g_26, w⟩ := w
    refine jw_cR (st := []) (sa := [vR 14 r0]) okX17_broken rfl rfl rfl rfl rfl rfl (jstp_virtual (sa := []) (st := []) (k := 0) rfl rfl sX17_broken okX17_broken g_26 (one14.k g_26) rfl rfl) w (fun v_29 h_27 _ _ _ w => ?_)
    obtain ⟨g_30, w⟩ := w
    exact jw_athrow rfl rfl g_30 w
def L_X17_among_122 (D : JD) (d : Nat) (Q : JO → JH → Prop) : Nat → Nat → Nat → Int32 → JH → Prop
  | 0 => fun _ _ _ _ => False
  | n + 1 => fun r0 r2 x3 h => W_X17_among_122 D d Q (L_X17_among_122 D d Q n) r0 r2 x3 h
theorem l_X17_among_122 {D : JD} {d : Nat} {Q : JO → JH → Prop} : ∀ (n : Nat) (r0 : Nat) (r2 : Nat) (x3 : Int32) (h : JH), L_X17_among_122 D d Q n r0 r2 x3 h → JW D (d + 1) mX17_among 122 [some (vR 14 r0), none, some (vR 222 r2), some (vI x3)] [] h Q := by
  intro n
  induction n with
  | zero => intro _ _ _ _ w; exact w.elim
  | succ n ih => intro _ _ _ h w; exact w_X17_among_122 ih w
def W_X17_among_0 (D : JD) (d : Nat) (Q : JO → JH → Prop) (r0 : Nat) (r1 : Nat) (h : JH) : Prop :=
  r0 ≠ 0 ∧ ((jfr h 79 r0) ≠ 0 ∧ (cX18_takesWord D d (jfr h 79 r0) (jcs D 130) h (pI D h (fun v_5 h_3 => (v_5 = 0 → (jfr h_3 79 r0) ≠ 0 ∧ (cX18_takesWord D d (jfr h_3 79 r0) (jcs D 131) h_3 (pI D h_3 (fun v_10 h_8 => (v_10 = 0 → (jfr h_8 79 r0) ≠ 0 ∧ (cX18_takesWord D d (jfr h_8 79 r0) (jcs D 133) h_8 (pI D h_8 (fun v_15 h_13 => (¬ v_15 = 0 → (jfr h_13 79 r0) ≠ 0 ∧ (cX18_need D d (jfr h_13 79 r0) (jcs D 91) h_13 (pV D h_13 (fun h_18 => ∀ (r_21 : Nat) (h_22 : JH), r_21 = jsz h_18 + 1 → h_22 = nwa h_18 222 9 → (jin (0 : Int32) (jln h_22 r_21) ∧ ∀ h_26 : JH, h_26 = war h_22 r_21 (ixn (0 : Int32)) r1 → (∃ n, L_X17_among_122 D d Q n r0 r_21 (1 : Int32) h_26))) (jth Q)))) ∧ (v_15 = 0 → Q (.inl (some (vR 55 0))) h_13)) (jth Q)))) ∧ (¬ v_10 = 0 → ∀ (r_28 : Nat) (h_29 : JH), r_28 = jsz h_8 + 1 → h_29 = nwa h_8 222 3 → (jin (0 : Int32) (jln h_29 r_28) ∧ ∀ h_33 : JH, h_33 = war h_29 r_28 (ixn (0 : Int32)) r1 → (cX17_sums D d r0 h_33 (pR D h_33 55 (fun v_37 h_35 => jin (1 : Int32) (jln h_35 r_28) ∧ ∀ h_39 : JH, h_39 = war h_35 r_28 (ixn (1 : Int32)) v_37 → ((jfr h_39 79 r0) ≠ 0 ∧ (cX18_needWord D d (jfr h_39 79 r0) (jcs D 132) h_39 (pV D h_39 (fun h_42 => cX17_sums D d r0 h_42 (pR D h_42 55 (fun v_47 h_45 => jin (2 : Int32) (jln h_45 r_28) ∧ ∀ h_49 : JH, h_49 = war h_45 r_28 (ixn (2 : Int32)) v_47 → (∀ (r_51 : Nat) (h_52 : JH), r_51 = jsz h_49 + 1 → h_52 = nwo h_49 29 5 → (cX35_init D d r_51 r_28 (3 : Int32) (1 : Int32) h_52 (pV D h_52 (fun h_55 => Q (.inl (some (vR 55 r_51))) h_55) (jth Q))))) (jth Q))) (jth Q))))) (jth Q)))))) (jth Q)))) ∧ (¬ v_5 = 0 → ∀ (r_58 : Nat) (h_59 : JH), r_58 = jsz h_3 + 1 → h_59 = nwo h_3 27 5 → (cX17_sums D d r0 h_59 (pR D h_59 55 (fun v_64 h_62 => cX33_init D d r_58 (jcs D 370) r1 v_64 h_62 (pV D h_62 (fun h_65 => Q (.inl (some (vR 55 r_58))) h_65) (jth Q))) (jth Q))))) (jth Q))))
theorem w_X17_among_0 {D : JD} {d : Nat} {Q : JO → JH → Prop} {r0 : Nat} {r1 : Nat} {h : JH} (w : W_X17_among_0 D d Q r0 r1 h) : JW D (d + 1) mX17_among 0 [some (vR 14 r0), some (vR 55 r1), none, none] [] h Q := by
  unfold W_X17_among_0 at w
  refine jw_aload_n (pc' := 1) rfl rfl ?_
  obtain ⟨g_1, w⟩ := w
  refine jw_getR (pc' := 4) (F := 79) (t' := 15) rfl rfl rfl rfl rfl g_1 ?_
  refine jw_ldcwS (pc' := 7) rfl rfl rfl rfl ?_
  obtain ⟨g_2, w⟩ := w
  refine jw_cI (st := []) (sa := [vR 15 (jfr h 79 r0), vR 51 (jcs D 130)]) okX18_takesWord rfl rfl rfl rfl rfl rfl (jstp_virtual (sa := [vR 51 (jcs D 130)]) (st := []) (k := 0) rfl rfl sX18_takesWord okX18_takesWord g_2 (one15.k g_2) rfl rfl) w (fun v_5 h_3 _ _ w => ?_)
  refine jw_if_eq (tgt := 29) (pc' := 13) rfl rfl (fun c_6 => ?_) (fun c_6 => ?_)
  · replace w := w.1 c_6
    refine jw_aload_n (pc' := 30) rfl rfl ?_
    refine jw_getR (pc' := 33) (F := 79) (t' := 15) rfl rfl rfl rfl rfl g_1 ?_
    refine jw_ldcwS (pc' := 36) rfl rfl rfl rfl ?_
    obtain ⟨g_7, w⟩ := w
    refine jw_cI (st := []) (sa := [vR 15 (jfr h_3 79 r0), vR 51 (jcs D 131)]) okX18_takesWord rfl rfl rfl rfl rfl rfl (jstp_virtual (sa := [vR 51 (jcs D 131)]) (st := []) (k := 0) rfl rfl sX18_takesWord okX18_takesWord g_7 (one15.k g_7) rfl rfl) w (fun v_10 h_8 _ _ w => ?_)
    refine jw_if_eq (tgt := 86) (pc' := 42) rfl rfl (fun c_11 => ?_) (fun c_11 => ?_)
    · replace w := w.1 c_11
      refine jw_aload_n (pc' := 87) rfl rfl ?_
      refine jw_getR (pc' := 90) (F := 79) (t' := 15) rfl rfl rfl rfl rfl g_1 ?_
      refine jw_ldcwS (pc' := 93) rfl rfl rfl rfl ?_
      obtain ⟨g_12, w⟩ := w
      refine jw_cI (st := []) (sa := [vR 15 (jfr h_8 79 r0), vR 51 (jcs D 133)]) okX18_takesWord rfl rfl rfl rfl rfl rfl (jstp_virtual (sa := [vR 51 (jcs D 133)]) (st := []) (k := 0) rfl rfl sX18_takesWord okX18_takesWord g_12 (one15.k g_12) rfl rfl) w (fun v_15 h_13 _ _ w => ?_)
      refine jw_if_ne (tgt := 101) (pc' := 99) rfl rfl (fun c_16 => ?_) (fun c_16 => ?_)
      · replace w := w.1 c_16
        refine jw_aload_n (pc' := 102) rfl rfl ?_
        refine jw_getR (pc' := 105) (F := 79) (t' := 15) rfl rfl rfl rfl rfl g_1 ?_
        refine jw_ldcS (pc' := 107) rfl rfl rfl rfl ?_
        obtain ⟨g_17, w⟩ := w
        refine jw_cV (st := []) (sa := [vR 15 (jfr h_13 79 r0), vR 51 (jcs D 91)]) okX18_need rfl rfl rfl rfl rfl rfl (jstp_virtual (sa := [vR 51 (jcs D 91)]) (st := []) (k := 0) rfl rfl sX18_need okX18_need g_17 (one15.k g_17) rfl rfl) w (fun h_18 _ _ w => ?_)
        refine jw_bipush (pc' := 112) (x := (9 : Int32)) rfl rfl ?_
        refine jw_anew' (pc' := 115) (n := 9) (k := 222) rfl rfl rfl rfl rfl rfl rfl (jtb_mem (c := 1) (i := 180) rfl) ⟨by decide, rfl⟩ rfl (fun r_21 h_22 e_23 e_24 => ?_)
        replace w := w r_21 h_22 e_23 e_24
        refine jw_astore_n (pc' := 116) (ls' := [some (vR 14 r0), some (vR 55 r1), some (vR 222 r_21), none]) rfl (by decide) rfl ?_
        refine jw_aload_n (pc' := 117) rfl rfl ?_
        refine jw_iconst (pc' := 118) (x := (0 : Int32)) rfl rfl ?_
        refine jw_aload_n (pc' := 119) rfl rfl ?_
        obtain ⟨g_25, w⟩ := w
        refine jw_aast' (pc' := 120) rfl rfl rfl rfl rfl rfl (jnz e_23) g_25 (fun h_26 e_27 => ?_)
        replace w := w h_26 e_27
        refine jw_iconst (pc' := 121) (x := (1 : Int32)) rfl rfl ?_
        refine jw_istore_n (pc' := 122) (ls' := [some (vR 14 r0), some (vR 55 r1), some (vR 222 r_21), some (vI (1 : Int32))]) rfl (by decide) rfl ?_
        refine jw_gen (ls' := [some (vR 14 r0), none, some (vR 222 r_21), some (vI (1 : Int32))]) (st' := []) (And.intro (Or.inl rfl) (And.intro (Or.inl rfl) (And.intro (Or.inl rfl) (trivial)))) (trivial) ?_
        obtain ⟨n, w⟩ := w
        exact l_X17_among_122 n _ _ _ _ w
      · replace w := w.2 c_16
        refine jw_null (pc' := 100) (t := 55) rfl ?_
        exact jw_areturn rfl rfl rfl rfl rfl w
    · replace w := w.2 c_11
      refine jw_iconst (pc' := 43) (x := (3 : Int32)) rfl rfl ?_
      refine jw_anew' (pc' := 46) (n := 3) (k := 222) rfl rfl rfl rfl rfl rfl rfl (jtb_mem (c := 1) (i := 180) rfl) ⟨by decide, rfl⟩ rfl (fun r_28 h_29 e_30 e_31 => ?_)
      replace w := w r_28 h_29 e_30 e_31
      refine jw_astore_n (pc' := 47) (ls' := [some (vR 14 r0), some (vR 55 r1), some (vR 222 r_28), none]) rfl (by decide) rfl ?_
      refine jw_aload_n (pc' := 48) rfl rfl ?_
      refine jw_iconst (pc' := 49) (x := (0 : Int32)) rfl rfl ?_
      refine jw_aload_n (pc' := 50) rfl rfl ?_
      obtain ⟨g_32, w⟩ := w
      refine jw_aast' (pc' := 51) rfl rfl rfl rfl rfl rfl (jnz e_30) g_32 (fun h_33 e_34 => ?_)
      replace w := w h_33 e_34
      refine jw_aload_n (pc' := 52) rfl rfl ?_
      refine jw_iconst (pc' := 53) (x := (1 : Int32)) rfl rfl ?_
      refine jw_aload_n (pc' := 54) rfl rfl ?_
      refine jw_cR (st := [vI (1 : Int32), vR 222 r_28]) (sa := [vR 14 r0]) okX17_sums rfl rfl rfl rfl rfl rfl (jstp_virtual (sa := []) (st := [vI (1 : Int32), vR 222 r_28]) (k := 0) rfl rfl sX17_sums okX17_sums g_1 (one14.k g_1) rfl rfl) w (fun v_37 h_35 _ _ _ w => ?_)
      obtain ⟨g_38, w⟩ := w
      refine jw_aast' (pc' := 58) rfl rfl rfl rfl rfl rfl (jnz e_30) g_38 (fun h_39 e_40 => ?_)
      replace w := w h_39 e_40
      refine jw_aload_n (pc' := 59) rfl rfl ?_
      refine jw_getR (pc' := 62) (F := 79) (t' := 15) rfl rfl rfl rfl rfl g_1 ?_
      refine jw_ldcwS (pc' := 65) rfl rfl rfl rfl ?_
      obtain ⟨g_41, w⟩ := w
      refine jw_cV (st := []) (sa := [vR 15 (jfr h_39 79 r0), vR 51 (jcs D 132)]) okX18_needWord rfl rfl rfl rfl rfl rfl (jstp_virtual (sa := [vR 51 (jcs D 132)]) (st := []) (k := 0) rfl rfl sX18_needWord okX18_needWord g_41 (one15.k g_41) rfl rfl) w (fun h_42 _ _ w => ?_)
      refine jw_aload_n (pc' := 69) rfl rfl ?_
      refine jw_iconst (pc' := 70) (x := (2 : Int32)) rfl rfl ?_
      refine jw_aload_n (pc' := 71) rfl rfl ?_
      refine jw_cR (st := [vI (2 : Int32), vR 222 r_28]) (sa := [vR 14 r0]) okX17_sums rfl rfl rfl rfl rfl rfl (jstp_virtual (sa := []) (st := [vI (2 : Int32), vR 222 r_28]) (k := 0) rfl rfl sX17_sums okX17_sums g_1 (one14.k g_1) rfl rfl) w (fun v_47 h_45 _ _ _ w => ?_)
      obtain ⟨g_48, w⟩ := w
      refine jw_aast' (pc' := 75) rfl rfl rfl rfl rfl rfl (jnz e_30) g_48 (fun h_49 e_50 => ?_)
      replace w := w h_49 e_50
      refine jw_new' (pc' := 78) (k := 29) (n := 5) rfl rfl rfl rfl rfl rfl rfl (fun r_51 h_52 e_53 e_54 => ?_)
      replace w := w r_51 h_52 e_53 e_54
      refine jw_dup (pc' := 79) rfl rfl ?_
      refine jw_aload_n (pc' := 80) rfl rfl ?_
      refine jw_iconst (pc' := 81) (x := (3 : Int32)) rfl rfl ?_
      refine jw_iconst (pc' := 82) (x := (1 : Int32)) rfl rfl ?_
      refine jw_cV (st := [vR 29 r_51]) (sa := [vR 29 r_51, vR 222 r_28, vI (3 : Int32), vI (1 : Int32)]) okX35_init rfl rfl rfl rfl rfl rfl (jstp_init (sa := [vR 222 r_28, vI (3 : Int32), vI (1 : Int32)]) (st := [vR 29 r_51]) rfl rfl sX35_init okX35_init (lw_g (jtb_mem (c := 8) (i := 168) rfl) rfl) (jnz e_53) rfl rfl) w (fun h_55 _ _ w => ?_)
      exact jw_areturn rfl rfl rfl rfl rfl w
  · replace w := w.2 c_6
    refine jw_new' (pc' := 16) (k := 27) (n := 5) rfl rfl rfl rfl rfl rfl rfl (fun r_58 h_59 e_60 e_61 => ?_)
    replace w := w r_58 h_59 e_60 e_61
    refine jw_dup (pc' := 17) rfl rfl ?_
    refine jw_getsR (pc' := 20) rfl rfl rfl rfl ?_
    refine jw_aload_n (pc' := 21) rfl rfl ?_
    refine jw_aload_n (pc' := 22) rfl rfl ?_
    refine jw_cR (st := [vR 55 r1, vR 54 (jcs D 370), vR 27 r_58, vR 27 r_58]) (sa := [vR 14 r0]) okX17_sums rfl rfl rfl rfl rfl rfl (jstp_virtual (sa := []) (st := [vR 55 r1, vR 54 (jcs D 370), vR 27 r_58, vR 27 r_58]) (k := 0) rfl rfl sX17_sums okX17_sums g_1 (one14.k g_1) rfl rfl) w (fun v_64 h_62 _ _ _ w => ?_)
    refine jw_cV (st := [vR 27 r_58]) (sa := [vR 27 r_58, vR 54 (jcs D 370), vR 55 r1, vR 55 v_64]) okX33_init rfl rfl rfl rfl rfl rfl (jstp_init (sa := [vR 54 (jcs D 370), vR 55 r1, vR 55 v_64]) (st := [vR 27 r_58]) rfl rfl sX33_init okX33_init (lw_g (jtb_mem (c := 8) (i := 94) rfl) rfl) (jnz e_60) rfl rfl) w (fun h_65 _ _ w => ?_)
    exact jw_areturn rfl rfl rfl rfl rfl w
def T_X17_among (D : JD) (d : Nat) (Q : JO → JH → Prop) (r0 : Nat) (r1 : Nat) (h : JH) : Prop := W_X17_among_0 D d Q r0 r1 h
theorem t_X17_among {D : JD} {d : Nat} {Q : JO → JH → Prop} {r0 : Nat} {r1 : Nat} {h : JH} (w : T_X17_among D d Q r0 r1 h) : cX17_among D (d + 1) r0 r1 h Q := by
  unfold T_X17_among at w
  unfold cX17_among
  exact w_X17_among_0 w
def W_X17_update_31 (D : JD) (d : Nat) (Q : JO → JH → Prop) (K31 : Nat → Nat → JH → Prop) (r0 : Nat) (r1 : Nat) (h : JH) : Prop :=
  r1 ≠ 0 ∧ (cX37_full D d r1 h (pI D h (fun v_4 h_2 => (v_4 = 0 → r0 ≠ 0 ∧ ((jfr h_2 79 r0) ≠ 0 ∧ (cX18_name D d (jfr h_2 79 r0) h_2 (pR D h_2 64 (fun v_10 h_8 => (jfr h_8 79 r0) ≠ 0 ∧ (cX18_need D d (jfr h_8 79 r0) (jcs D 124) h_8 (pV D h_8 (fun h_12 => cX17_expression D d r0 h_12 (pR D h_12 55 (fun v_17 h_15 => cX37_set D d r1 v_10 v_17 h_15 (pV D h_15 (fun h_18 => (jfr h_18 79 r0) ≠ 0 ∧ (cX18_takes D d (jfr h_18 79 r0) (jcs D 100) h_18 (pI D h_18 (fun v_24 h_22 => (¬ v_24 = 0 → K31 r0 r1 h_22) ∧ (v_24 = 0 → cX17_where D d r0 h_22 (pR D h_22 55 (fun v_28 h_26 => cX37_where D d r1 v_28 h_26 (pV D h_26 (fun h_29 => Q (.inl (some (vR 57 r1))) h_29) (jth Q))) (jth Q)))) (jth Q)))) (jth Q))) (jth Q))) (jth Q)))) (jth Q))))) ∧ (¬ v_4 = 0 → r0 ≠ 0 ∧ (cX17_broken D d r0 h_2 (pR D h_2 9 (fun v_35 h_33 => v_35 ≠ 0 ∧ (Q (.inr v_35) h_33)) (jth Q))))) (jth Q)))
theorem w_X17_update_31 {D : JD} {d : Nat} {Q : JO → JH → Prop} {K31 : Nat → Nat → JH → Prop} {r0 : Nat} {r1 : Nat} {h : JH} (hK31 : ∀ (r0 : Nat) (r1 : Nat) (h : JH), K31 r0 r1 h → JW D (d + 1) mX17_update 31 [some (vR 14 r0), some (vR 30 r1), none] [] h Q) (w : W_X17_update_31 D d Q K31 r0 r1 h) : JW D (d + 1) mX17_update 31 [some (vR 14 r0), some (vR 30 r1), none] [] h Q := by
  unfold W_X17_update_31 at w
  refine jw_aload_n (pc' := 32) rfl rfl ?_
  obtain ⟨g_1, w⟩ := w
  refine jw_cI (st := []) (sa := [vR 30 r1]) okX37_full rfl rfl rfl rfl rfl rfl (jstp_virtual (sa := []) (st := []) (k := 0) rfl rfl sX37_full okX37_full g_1 (one30.k g_1) rfl rfl) w (fun v_4 h_2 _ _ w => ?_)
  refine jw_if_eq (tgt := 43) (pc' := 38) rfl rfl (fun c_5 => ?_) (fun c_5 => ?_)
  · replace w := w.1 c_5
    refine jw_aload_n (pc' := 44) rfl rfl ?_
    obtain ⟨g_6, w⟩ := w
    refine jw_getR (pc' := 47) (F := 79) (t' := 15) rfl rfl rfl rfl rfl g_6 ?_
    obtain ⟨g_7, w⟩ := w
    refine jw_cR (st := []) (sa := [vR 15 (jfr h_2 79 r0)]) okX18_name rfl rfl rfl rfl rfl rfl (jstp_virtual (sa := []) (st := []) (k := 0) rfl rfl sX18_name okX18_name g_7 (one15.k g_7) rfl rfl) w (fun v_10 h_8 _ _ _ w => ?_)
    refine jw_astore_n (pc' := 51) (ls' := [some (vR 14 r0), some (vR 30 r1), some (vR 64 v_10)]) rfl (by decide) rfl ?_
    refine jw_aload_n (pc' := 52) rfl rfl ?_
    refine jw_getR (pc' := 55) (F := 79) (t' := 15) rfl rfl rfl rfl rfl g_6 ?_
    refine jw_ldcS (pc' := 57) rfl rfl rfl rfl ?_
    obtain ⟨g_11, w⟩ := w
    refine jw_cV (st := []) (sa := [vR 15 (jfr h_8 79 r0), vR 51 (jcs D 124)]) okX18_need rfl rfl rfl rfl rfl rfl (jstp_virtual (sa := [vR 51 (jcs D 124)]) (st := []) (k := 0) rfl rfl sX18_need okX18_need g_11 (one15.k g_11) rfl rfl) w (fun h_12 _ _ w => ?_)
    refine jw_aload_n (pc' := 61) rfl rfl ?_
    refine jw_aload_n (pc' := 62) rfl rfl ?_
    refine jw_aload_n (pc' := 63) rfl rfl ?_
    refine jw_cR (st := [vR 64 v_10, vR 30 r1]) (sa := [vR 14 r0]) okX17_expression rfl rfl rfl rfl rfl rfl (jstp_virtual (sa := []) (st := [vR 64 v_10, vR 30 r1]) (k := 0) rfl rfl sX17_expression okX17_expression g_6 (one14.k g_6) rfl rfl) w (fun v_17 h_15 _ _ _ w => ?_)
    refine jw_cV (st := []) (sa := [vR 30 r1, vR 64 v_10, vR 55 v_17]) okX37_set rfl rfl rfl rfl rfl rfl (jstp_virtual (sa := [vR 64 v_10, vR 55 v_17]) (st := []) (k := 0) rfl rfl sX37_set okX37_set g_1 (one30.k g_1) rfl rfl) w (fun h_18 _ _ w => ?_)
    refine jw_aload_n (pc' := 70) rfl rfl ?_
    refine jw_getR (pc' := 73) (F := 79) (t' := 15) rfl rfl rfl rfl rfl g_6 ?_
    refine jw_ldcS (pc' := 75) rfl rfl rfl rfl ?_
    obtain ⟨g_21, w⟩ := w
    refine jw_cI (st := []) (sa := [vR 15 (jfr h_18 79 r0), vR 51 (jcs D 100)]) okX18_takes rfl rfl rfl rfl rfl rfl (jstp_virtual (sa := [vR 51 (jcs D 100)]) (st := []) (k := 0) rfl rfl sX18_takes okX18_takes g_21 (one15.k g_21) rfl rfl) w (fun v_24 h_22 _ _ w => ?_)
    refine jw_if_ne (tgt := 31) (pc' := 81) rfl rfl (fun c_25 => ?_) (fun c_25 => ?_)
    · replace w := w.1 c_25
      refine jw_gen (ls' := [some (vR 14 r0), some (vR 30 r1), none]) (st' := []) (And.intro (Or.inl rfl) (And.intro (Or.inl rfl) (trivial))) (trivial) ?_
      exact hK31 _ _ _ w
    · replace w := w.2 c_25
      refine jw_aload_n (pc' := 82) rfl rfl ?_
      refine jw_aload_n (pc' := 83) rfl rfl ?_
      refine jw_cR (st := [vR 30 r1]) (sa := [vR 14 r0]) okX17_where rfl rfl rfl rfl rfl rfl (jstp_virtual (sa := []) (st := [vR 30 r1]) (k := 0) rfl rfl sX17_where okX17_where g_6 (one14.k g_6) rfl rfl) w (fun v_28 h_26 _ _ _ w => ?_)
      refine jw_cV (st := []) (sa := [vR 30 r1, vR 55 v_28]) okX37_where rfl rfl rfl rfl rfl rfl (jstp_virtual (sa := [vR 55 v_28]) (st := []) (k := 0) rfl rfl sX37_where okX37_where g_1 (one30.k g_1) rfl rfl) w (fun h_29 _ _ w => ?_)
      refine jw_aload_n (pc' := 90) rfl rfl ?_
      exact jw_areturn rfl rfl rfl rfl rfl w
  · replace w := w.2 c_5
    refine jw_aload_n (pc' := 39) rfl rfl ?_
    obtain ⟨g_32, w⟩ := w
    refine jw_cR (st := []) (sa := [vR 14 r0]) okX17_broken rfl rfl rfl rfl rfl rfl (jstp_virtual (sa := []) (st := []) (k := 0) rfl rfl sX17_broken okX17_broken g_32 (one14.k g_32) rfl rfl) w (fun v_35 h_33 _ _ _ w => ?_)
    obtain ⟨g_36, w⟩ := w
    exact jw_athrow rfl rfl g_36 w
def L_X17_update_31 (D : JD) (d : Nat) (Q : JO → JH → Prop) : Nat → Nat → Nat → JH → Prop
  | 0 => fun _ _ _ => False
  | n + 1 => fun r0 r1 h => W_X17_update_31 D d Q (L_X17_update_31 D d Q n) r0 r1 h
theorem l_X17_update_31 {D : JD} {d : Nat} {Q : JO → JH → Prop} : ∀ (n : Nat) (r0 : Nat) (r1 : Nat) (h : JH), L_X17_update_31 D d Q n r0 r1 h → JW D (d + 1) mX17_update 31 [some (vR 14 r0), some (vR 30 r1), none] [] h Q := by
  intro n
  induction n with
  | zero => intro _ _ _ w; exact w.elim
  | succ n ih => intro _ _ h w; exact w_X17_update_31 ih w
def W_X17_update_0 (D : JD) (d : Nat) (Q : JO → JH → Prop) (r0 : Nat) (h : JH) : Prop :=
  r0 ≠ 0 ∧ ((jfr h 79 r0) ≠ 0 ∧ (cX18_next D d (jfr h 79 r0) h (pV D h (fun h_3 => ∀ (r_6 : Nat) (h_7 : JH), r_6 = jsz h_3 + 1 → h_7 = nwo h_3 30 7 → ((jfr h_7 79 r0) ≠ 0 ∧ (cX18_name D d (jfr h_7 79 r0) h_7 (pR D h_7 64 (fun v_13 h_11 => cX37_init D d r_6 v_13 h_11 (pV D h_11 (fun h_14 => (jfr h_14 79 r0) ≠ 0 ∧ (cX18_needWord D d (jfr h_14 79 r0) (jcs D 135) h_14 (pV D h_14 (fun h_18 => ∃ n, L_X17_update_31 D d Q n r0 r_6 h_18) (jth Q)))) (jth Q))) (jth Q))))) (jth Q))))
theorem w_X17_update_0 {D : JD} {d : Nat} {Q : JO → JH → Prop} {r0 : Nat} {h : JH} (w : W_X17_update_0 D d Q r0 h) : JW D (d + 1) mX17_update 0 [some (vR 14 r0), none, none] [] h Q := by
  unfold W_X17_update_0 at w
  refine jw_aload_n (pc' := 1) rfl rfl ?_
  obtain ⟨g_1, w⟩ := w
  refine jw_getR (pc' := 4) (F := 79) (t' := 15) rfl rfl rfl rfl rfl g_1 ?_
  obtain ⟨g_2, w⟩ := w
  refine jw_cV (st := []) (sa := [vR 15 (jfr h 79 r0)]) okX18_next rfl rfl rfl rfl rfl rfl (jstp_virtual (sa := []) (st := []) (k := 0) rfl rfl sX18_next okX18_next g_2 (one15.k g_2) rfl rfl) w (fun h_3 _ _ w => ?_)
  refine jw_new' (pc' := 10) (k := 30) (n := 7) rfl rfl rfl rfl rfl rfl rfl (fun r_6 h_7 e_8 e_9 => ?_)
  replace w := w r_6 h_7 e_8 e_9
  refine jw_dup (pc' := 11) rfl rfl ?_
  refine jw_aload_n (pc' := 12) rfl rfl ?_
  refine jw_getR (pc' := 15) (F := 79) (t' := 15) rfl rfl rfl rfl rfl g_1 ?_
  obtain ⟨g_10, w⟩ := w
  refine jw_cR (st := [vR 30 r_6, vR 30 r_6]) (sa := [vR 15 (jfr h_7 79 r0)]) okX18_name rfl rfl rfl rfl rfl rfl (jstp_virtual (sa := []) (st := [vR 30 r_6, vR 30 r_6]) (k := 0) rfl rfl sX18_name okX18_name g_10 (one15.k g_10) rfl rfl) w (fun v_13 h_11 _ _ _ w => ?_)
  refine jw_cV (st := [vR 30 r_6]) (sa := [vR 30 r_6, vR 64 v_13]) okX37_init rfl rfl rfl rfl rfl rfl (jstp_init (sa := [vR 64 v_13]) (st := [vR 30 r_6]) rfl rfl sX37_init okX37_init (lw_g (jtb_mem (c := 8) (i := 196) rfl) rfl) (jnz e_8) rfl rfl) w (fun h_14 _ _ w => ?_)
  refine jw_astore_n (pc' := 22) (ls' := [some (vR 14 r0), some (vR 30 r_6), none]) rfl (by decide) rfl ?_
  refine jw_aload_n (pc' := 23) rfl rfl ?_
  refine jw_getR (pc' := 26) (F := 79) (t' := 15) rfl rfl rfl rfl rfl g_1 ?_
  refine jw_ldcS (pc' := 28) rfl rfl rfl rfl ?_
  obtain ⟨g_17, w⟩ := w
  refine jw_cV (st := []) (sa := [vR 15 (jfr h_14 79 r0), vR 51 (jcs D 135)]) okX18_needWord rfl rfl rfl rfl rfl rfl (jstp_virtual (sa := [vR 51 (jcs D 135)]) (st := []) (k := 0) rfl rfl sX18_needWord okX18_needWord g_17 (one15.k g_17) rfl rfl) w (fun h_18 _ _ w => ?_)
  obtain ⟨n, w⟩ := w
  exact l_X17_update_31 n _ _ _ w
def T_X17_update (D : JD) (d : Nat) (Q : JO → JH → Prop) (r0 : Nat) (h : JH) : Prop := W_X17_update_0 D d Q r0 h
theorem t_X17_update {D : JD} {d : Nat} {Q : JO → JH → Prop} {r0 : Nat} {h : JH} (w : T_X17_update D d Q r0 h) : cX17_update D (d + 1) r0 h Q := by
  unfold T_X17_update at w
  unfold cX17_update
  exact w_X17_update_0 w
def W_X17_where_20 (D : JD) (d : Nat) (Q : JO → JH → Prop) (q0 : Nat) (h : JH) : Prop :=
  Q (.inl (some (vR 55 q0))) h
theorem w_X17_where_20 {D : JD} {d : Nat} {Q : JO → JH → Prop} {q0 : Nat} {h : JH} (w : W_X17_where_20 D d Q q0 h) : JW D (d + 1) mX17_where 20 [none] [vR 55 q0] h Q := by
  unfold W_X17_where_20 at w
  exact jw_areturn rfl rfl rfl rfl rfl w
def W_X17_where_0 (D : JD) (d : Nat) (Q : JO → JH → Prop) (r0 : Nat) (h : JH) : Prop :=
  r0 ≠ 0 ∧ ((jfr h 79 r0) ≠ 0 ∧ (cX18_takesWord D d (jfr h 79 r0) (jcs D 136) h (pI D h (fun v_5 h_3 => (v_5 = 0 → W_X17_where_20 D d Q 0 h_3) ∧ (¬ v_5 = 0 → cX17_expression D d r0 h_3 (pR D h_3 55 (fun v_9 h_7 => W_X17_where_20 D d Q v_9 h_7) (jth Q)))) (jth Q))))
theorem w_X17_where_0 {D : JD} {d : Nat} {Q : JO → JH → Prop} {r0 : Nat} {h : JH} (w : W_X17_where_0 D d Q r0 h) : JW D (d + 1) mX17_where 0 [some (vR 14 r0)] [] h Q := by
  unfold W_X17_where_0 at w
  refine jw_aload_n (pc' := 1) rfl rfl ?_
  obtain ⟨g_1, w⟩ := w
  refine jw_getR (pc' := 4) (F := 79) (t' := 15) rfl rfl rfl rfl rfl g_1 ?_
  refine jw_ldcS (pc' := 6) rfl rfl rfl rfl ?_
  obtain ⟨g_2, w⟩ := w
  refine jw_cI (st := []) (sa := [vR 15 (jfr h 79 r0), vR 51 (jcs D 136)]) okX18_takesWord rfl rfl rfl rfl rfl rfl (jstp_virtual (sa := [vR 51 (jcs D 136)]) (st := []) (k := 0) rfl rfl sX18_takesWord okX18_takesWord g_2 (one15.k g_2) rfl rfl) w (fun v_5 h_3 _ _ w => ?_)
  refine jw_if_eq (tgt := 19) (pc' := 12) rfl rfl (fun c_6 => ?_) (fun c_6 => ?_)
  · replace w := w.1 c_6
    refine jw_null (pc' := 20) (t := 55) rfl ?_
    refine jw_gen (ls' := [none]) (st' := [vR 55 0]) (trivial) (And.intro (Or.inl rfl) (trivial)) ?_
    exact w_X17_where_20 w
  · replace w := w.2 c_6
    refine jw_aload_n (pc' := 13) rfl rfl ?_
    refine jw_cR (st := []) (sa := [vR 14 r0]) okX17_expression rfl rfl rfl rfl rfl rfl (jstp_virtual (sa := []) (st := []) (k := 0) rfl rfl sX17_expression okX17_expression g_1 (one14.k g_1) rfl rfl) w (fun v_9 h_7 _ _ _ w => ?_)
    refine jw_goto (pc' := 20) rfl rfl ?_
    refine jw_gen (ls' := [none]) (st' := [vR 55 v_9]) (trivial) (And.intro (Or.inl rfl) (trivial)) ?_
    exact w_X17_where_20 w
def T_X17_where (D : JD) (d : Nat) (Q : JO → JH → Prop) (r0 : Nat) (h : JH) : Prop := W_X17_where_0 D d Q r0 h
theorem t_X17_where {D : JD} {d : Nat} {Q : JO → JH → Prop} {r0 : Nat} {h : JH} (w : T_X17_where D d Q r0 h) : cX17_where D (d + 1) r0 h Q := by
  unfold T_X17_where at w
  unfold cX17_where
  exact w_X17_where_0 w
