/-! what each method needs (printed by tools/gen_wp.py) -/
set_option maxRecDepth 4000
def W_X8_checkInsert_130 (D : JD) (d : Nat) (Q : JO → JH → Prop) (K64 : Nat → Nat → Nat → Int32 → Int32 → Int32 → JH → Prop) (K101 : Nat → Nat → Nat → Int32 → Int32 → Int32 → Int32 → JH → Prop) (r0 : Nat) (r1 : Nat) (r2 : Nat) (x3 : Int32) (x4 : Int32) (x5 : Int32) (x6 : Int32) (s0 : Int32) (h : JH) : Prop :=
  r1 ≠ 0 ∧ ((jfr h 278 r1) ≠ 0 ∧ jin x4 (jln h (jfr h 278 r1)) ∧ (r0 ≠ 0 ∧ (cX8_check_2 D d r0 (jar h (jfr h 278 r1) (ixn x4)) h (pI D h (fun v_7 h_5 => r2 ≠ 0 ∧ ((jfr h_5 252 r2) ≠ 0 ∧ jin s0 (jln h_5 (jfr h_5 252 r2)) ∧ (cX8_fits D d r0 v_7 (jai h_5 (jfr h_5 252 r2) (ixn s0)) h_5 (pV D h_5 (fun h_11 => K101 r0 r1 r2 x3 (x4 + (1 : Int32)) x5 (x6 + (1 : Int32)) h_11) (jth Q))))) (jth Q)))))
theorem w_X8_checkInsert_130 {D : JD} {d : Nat} {Q : JO → JH → Prop} {K64 : Nat → Nat → Nat → Int32 → Int32 → Int32 → JH → Prop} {K101 : Nat → Nat → Nat → Int32 → Int32 → Int32 → Int32 → JH → Prop} {r0 : Nat} {r1 : Nat} {r2 : Nat} {x3 : Int32} {x4 : Int32} {x5 : Int32} {x6 : Int32} {s0 : Int32} {h : JH} (hK64 : ∀ (r0 : Nat) (r1 : Nat) (r2 : Nat) (x3 : Int32) (x4 : Int32) (x5 : Int32) (h : JH), K64 r0 r1 r2 x3 x4 x5 h → JW D (d + 1) mX8_checkInsert 64 [some (vR 41 r0), some (vR 47 r1), some (vR 44 r2), some (vI x3), some (vI x4), some (vI x5), none, none] [] h Q) (hK101 : ∀ (r0 : Nat) (r1 : Nat) (r2 : Nat) (x3 : Int32) (x4 : Int32) (x5 : Int32) (x6 : Int32) (h : JH), K101 r0 r1 r2 x3 x4 x5 x6 h → JW D (d + 1) mX8_checkInsert 101 [some (vR 41 r0), some (vR 47 r1), some (vR 44 r2), some (vI x3), some (vI x4), some (vI x5), some (vI x6), none] [] h Q) (w : W_X8_checkInsert_130 D d Q K64 K101 r0 r1 r2 x3 x4 x5 x6 s0 h) : JW D (d + 1) mX8_checkInsert 130 [some (vR 41 r0), some (vR 47 r1), some (vR 44 r2), some (vI x3), some (vI x4), some (vI x5), some (vI x6), none] [vI s0] h Q := by
  unfold W_X8_checkInsert_130 at w
  refine jw_istore (pc' := 132) (ls' := [some (vR 41 r0), some (vR 47 r1), some (vR 44 r2), some (vI x3), some (vI x4), some (vI x5), some (vI x6), some (vI s0)]) rfl (by decide) rfl ?_
  refine jw_aload_n (pc' := 133) rfl rfl ?_
  refine jw_aload_n (pc' := 134) rfl rfl ?_
  refine jw_aload_n (pc' := 135) rfl rfl ?_
  obtain ⟨g_1, w⟩ := w
  refine jw_getR (pc' := 138) (F := 278) (t' := 202) rfl rfl rfl rfl rfl g_1 ?_
  refine jw_iload (pc' := 140) rfl rfl ?_
  obtain ⟨g_2, w⟩ := w
  obtain ⟨g_3, w⟩ := w
  refine jw_aald (pc' := 141) (t' := 48) rfl rfl rfl rfl g_2 g_3.ix g_3.2 ?_
  obtain ⟨g_4, w⟩ := w
  refine jw_cI (st := [vR 41 r0]) (sa := [vR 41 r0, vR 48 (jar h (jfr h 278 r1) (ixn x4))]) okX8_check_2 rfl rfl rfl rfl rfl rfl (jstp_virtual (sa := [vR 48 (jar h (jfr h 278 r1) (ixn x4))]) (st := [vR 41 r0]) (k := 0) rfl rfl sX8_check_2 okX8_check_2 g_4 (one41.k g_4) rfl rfl) w (fun v_7 h_5 _ _ w => ?_)
  refine jw_aload_n (pc' := 145) rfl rfl ?_
  obtain ⟨g_8, w⟩ := w
  refine jw_getR (pc' := 148) (F := 252) (t' := 189) rfl rfl rfl rfl rfl g_8 ?_
  refine jw_iload (pc' := 150) rfl rfl ?_
  obtain ⟨g_9, w⟩ := w
  obtain ⟨g_10, w⟩ := w
  refine jw_iald (pc' := 151) rfl rfl rfl rfl g_9 g_10.ix g_10.2 ?_
  refine jw_cV (st := []) (sa := [vR 41 r0, vI v_7, vI (jai h_5 (jfr h_5 252 r2) (ixn s0))]) okX8_fits rfl rfl rfl rfl rfl rfl (jstp_virtual (sa := [vI v_7, vI (jai h_5 (jfr h_5 252 r2) (ixn s0))]) (st := []) (k := 0) rfl rfl sX8_fits okX8_fits g_4 (one41.k g_4) rfl rfl) w (fun h_11 _ _ w => ?_)
  refine jw_iinc (pc' := 157) (y := x4 + (1 : Int32)) (ls' := [some (vR 41 r0), some (vR 47 r1), some (vR 44 r2), some (vI x3), some (vI (x4 + (1 : Int32))), some (vI x5), some (vI x6), some (vI s0)]) rfl (by decide) rfl rfl rfl ?_
  refine jw_iinc (pc' := 160) (y := x6 + (1 : Int32)) (ls' := [some (vR 41 r0), some (vR 47 r1), some (vR 44 r2), some (vI x3), some (vI (x4 + (1 : Int32))), some (vI x5), some (vI (x6 + (1 : Int32))), some (vI s0)]) rfl (by decide) rfl rfl rfl ?_
  refine jw_goto (pc' := 101) rfl rfl ?_
  refine jw_gen (ls' := [some (vR 41 r0), some (vR 47 r1), some (vR 44 r2), some (vI x3), some (vI (x4 + (1 : Int32))), some (vI x5), some (vI (x6 + (1 : Int32))), none]) (st' := []) (And.intro (Or.inl rfl) (And.intro (Or.inl rfl) (And.intro (Or.inl rfl) (And.intro (Or.inl rfl) (And.intro (Or.inl rfl) (And.intro (Or.inl rfl) (And.intro (Or.inl rfl) (trivial)))))))) (trivial) ?_
  exact hK101 _ _ _ _ _ _ _ _ w
def W_X8_checkInsert_101 (D : JD) (d : Nat) (Q : JO → JH → Prop) (K64 : Nat → Nat → Nat → Int32 → Int32 → Int32 → JH → Prop) (K101 : Nat → Nat → Nat → Int32 → Int32 → Int32 → Int32 → JH → Prop) (r0 : Nat) (r1 : Nat) (r2 : Nat) (x3 : Int32) (x4 : Int32) (x5 : Int32) (x6 : Int32) (h : JH) : Prop :=
  (x3 ≤ x6 → K64 r0 r1 r2 x3 x4 (x5 + (1 : Int32)) h) ∧ (¬ x3 ≤ x6 → r1 ≠ 0 ∧ (((jfi h 277 r1) = 0 → W_X8_checkInsert_130 D d Q K64 K101 r0 r1 r2 x3 x4 x5 x6 x6 h) ∧ (¬ (jfi h 277 r1) = 0 → (jfr h 272 r1) ≠ 0 ∧ jin x6 (jln h (jfr h 272 r1)) ∧ (r2 ≠ 0 ∧ (cX11_find D d r2 (jar h (jfr h 272 r1) (ixn x6)) h (pI D h (fun v_9 h_7 => W_X8_checkInsert_130 D d Q K64 K101 r0 r1 r2 x3 x4 x5 x6 v_9 h_7) (jth Q)))))))
theorem w_X8_checkInsert_101 {D : JD} {d : Nat} {Q : JO → JH → Prop} {K64 : Nat → Nat → Nat → Int32 → Int32 → Int32 → JH → Prop} {K101 : Nat → Nat → Nat → Int32 → Int32 → Int32 → Int32 → JH → Prop} {r0 : Nat} {r1 : Nat} {r2 : Nat} {x3 : Int32} {x4 : Int32} {x5 : Int32} {x6 : Int32} {h : JH} (hK64 : ∀ (r0 : Nat) (r1 : Nat) (r2 : Nat) (x3 : Int32) (x4 : Int32) (x5 : Int32) (h : JH), K64 r0 r1 r2 x3 x4 x5 h → JW D (d + 1) mX8_checkInsert 64 [some (vR 41 r0), some (vR 47 r1), some (vR 44 r2), some (vI x3), some (vI x4), some (vI x5), none, none] [] h Q) (hK101 : ∀ (r0 : Nat) (r1 : Nat) (r2 : Nat) (x3 : Int32) (x4 : Int32) (x5 : Int32) (x6 : Int32) (h : JH), K101 r0 r1 r2 x3 x4 x5 x6 h → JW D (d + 1) mX8_checkInsert 101 [some (vR 41 r0), some (vR 47 r1), some (vR 44 r2), some (vI x3), some (vI x4), some (vI x5), some (vI x6), none] [] h Q) (w : W_X8_checkInsert_101 D d Q K64 K101 r0 r1 r2 x3 x4 x5 x6 h) : JW D (d + 1) mX8_checkInsert 101 [some (vR 41 r0), some (vR 47 r1), some (vR 44 r2), some (vI x3), some (vI x4), some (vI x5), some (vI x6), none] [] h Q := by
  unfold W_X8_checkInsert_101 at w
  refine jw_iload (pc' := 103) rfl rfl ?_
  refine jw_iload_n (pc' := 104) rfl rfl ?_
  refine jw_icmp_ge (tgt := 163) (pc' := 107) rfl rfl (fun c_1 => ?_) (fun c_1 => ?_)
  · replace w := w.1 c_1
    refine jw_iinc (pc' := 166) (y := x5 + (1 : Int32)) (ls' := [some (vR 41 r0), some (vR 47 r1), some (vR 44 r2), some (vI x3), some (vI x4), some (vI (x5 + (1 : Int32))), some (vI x6), none]) rfl (by decide) rfl rfl rfl ?_
    refine jw_goto (pc' := 64) rfl rfl ?_
    refine jw_gen (ls' := [some (vR 41 r0), some (vR 47 r1), some (vR 44 r2), some (vI x3), some (vI x4), some (vI (x5 + (1 : Int32))), none, none]) (st' := []) (And.intro (Or.inl rfl) (And.intro (Or.inl rfl) (And.intro (Or.inl rfl) (And.intro (Or.inl rfl) (And.intro (Or.inl rfl) (And.intro (Or.inl rfl) (trivial))))))) (trivial) ?_
    exact hK64 _ _ _ _ _ _ _ w
  · replace w := w.2 c_1
    refine jw_aload_n (pc' := 108) rfl rfl ?_
    obtain ⟨g_2, w⟩ := w
    refine jw_getI (pc' := 111) (F := 277) rfl rfl rfl rfl g_2 ?_
    refine jw_if_eq (tgt := 128) (pc' := 114) rfl rfl (fun c_3 => ?_) (fun c_3 => ?_)
    · replace w := w.1 c_3
      refine jw_iload (pc' := 130) rfl rfl ?_
      exact w_X8_checkInsert_130 hK64 hK101 w
    · replace w := w.2 c_3
      refine jw_aload_n (pc' := 115) rfl rfl ?_
      refine jw_aload_n (pc' := 116) rfl rfl ?_
      refine jw_getR (pc' := 119) (F := 272) (t' := 198) rfl rfl rfl rfl rfl g_2 ?_
      refine jw_iload (pc' := 121) rfl rfl ?_
      obtain ⟨g_4, w⟩ := w
      obtain ⟨g_5, w⟩ := w
      refine jw_aald (pc' := 122) (t' := 64) rfl rfl rfl rfl g_4 g_5.ix g_5.2 ?_
      obtain ⟨g_6, w⟩ := w
      refine jw_cI (st := []) (sa := [vR 44 r2, vR 64 (jar h (jfr h 272 r1) (ixn x6))]) okX11_find rfl rfl rfl rfl rfl rfl (jstp_virtual (sa := [vR 64 (jar h (jfr h 272 r1) (ixn x6))]) (st := []) (k := 0) rfl rfl sX11_find okX11_find g_6 (one44.k g_6) rfl rfl) w (fun v_9 h_7 _ _ w => ?_)
      refine jw_goto (pc' := 130) rfl rfl ?_
      exact w_X8_checkInsert_130 hK64 hK101 w
def L_X8_checkInsert_101 (D : JD) (d : Nat) (Q : JO → JH → Prop) (K64 : Nat → Nat → Nat → Int32 → Int32 → Int32 → JH → Prop) : Nat → Nat → Nat → Nat → Int32 → Int32 → Int32 → Int32 → JH → Prop
  | 0 => fun _ _ _ _ _ _ _ _ => False
  | n + 1 => fun r0 r1 r2 x3 x4 x5 x6 h => W_X8_checkInsert_101 D d Q K64 (L_X8_checkInsert_101 D d Q K64 n) r0 r1 r2 x3 x4 x5 x6 h
theorem l_X8_checkInsert_101 {D : JD} {d : Nat} {Q : JO → JH → Prop} {K64 : Nat → Nat → Nat → Int32 → Int32 → Int32 → JH → Prop} (hK64 : ∀ (r0 : Nat) (r1 : Nat) (r2 : Nat) (x3 : Int32) (x4 : Int32) (x5 : Int32) (h : JH), K64 r0 r1 r2 x3 x4 x5 h → JW D (d + 1) mX8_checkInsert 64 [some (vR 41 r0), some (vR 47 r1), some (vR 44 r2), some (vI x3), some (vI x4), some (vI x5), none, none] [] h Q) : ∀ (n : Nat) (r0 : Nat) (r1 : Nat) (r2 : Nat) (x3 : Int32) (x4 : Int32) (x5 : Int32) (x6 : Int32) (h : JH), L_X8_checkInsert_101 D d Q K64 n r0 r1 r2 x3 x4 x5 x6 h → JW D (d + 1) mX8_checkInsert 101 [some (vR 41 r0), some (vR 47 r1), some (vR 44 r2), some (vI x3), some (vI x4), some (vI x5), some (vI x6), none] [] h Q := by
  intro n
  induction n with
  | zero => intro _ _ _ _ _ _ _ _ w; exact w.elim
  | succ n ih => intro _ _ _ _ _ _ _ h w; exact w_X8_checkInsert_101 hK64 ih w
def W_X8_checkInsert_93 (D : JD) (d : Nat) (Q : JO → JH → Prop) (K64 : Nat → Nat → Nat → Int32 → Int32 → Int32 → JH → Prop) (r0 : Nat) (r1 : Nat) (r2 : Nat) (x3 : Int32) (x4 : Int32) (x5 : Int32) (q0 : Nat) (s1 : Int32) (h : JH) : Prop :=
  q0 ≠ 0 ∧ (cX8_must D d q0 s1 (jcs D 236) h (pV D h (fun h_2 => ∃ n, L_X8_checkInsert_101 D d Q K64 n r0 r1 r2 x3 x4 x5 (0 : Int32) h_2) (jth Q)))
theorem w_X8_checkInsert_93 {D : JD} {d : Nat} {Q : JO → JH → Prop} {K64 : Nat → Nat → Nat → Int32 → Int32 → Int32 → JH → Prop} {r0 : Nat} {r1 : Nat} {r2 : Nat} {x3 : Int32} {x4 : Int32} {x5 : Int32} {q0 : Nat} {s1 : Int32} {h : JH} (hK64 : ∀ (r0 : Nat) (r1 : Nat) (r2 : Nat) (x3 : Int32) (x4 : Int32) (x5 : Int32) (h : JH), K64 r0 r1 r2 x3 x4 x5 h → JW D (d + 1) mX8_checkInsert 64 [some (vR 41 r0), some (vR 47 r1), some (vR 44 r2), some (vI x3), some (vI x4), some (vI x5), none, none] [] h Q) (w : W_X8_checkInsert_93 D d Q K64 r0 r1 r2 x3 x4 x5 q0 s1 h) : JW D (d + 1) mX8_checkInsert 93 [some (vR 41 r0), some (vR 47 r1), some (vR 44 r2), some (vI x3), some (vI x4), some (vI x5), none, none] [vI s1, vR 41 q0] h Q := by
  unfold W_X8_checkInsert_93 at w
  refine jw_ldcS (pc' := 95) rfl rfl rfl rfl ?_
  obtain ⟨g_1, w⟩ := w
  refine jw_cV (st := []) (sa := [vR 41 q0, vI s1, vR 51 (jcs D 236)]) okX8_must rfl rfl rfl rfl rfl rfl (jstp_virtual (sa := [vI s1, vR 51 (jcs D 236)]) (st := []) (k := 0) rfl rfl sX8_must okX8_must g_1 (one41.k g_1) rfl rfl) w (fun h_2 _ _ w => ?_)
  refine jw_iconst (pc' := 99) (x := (0 : Int32)) rfl rfl ?_
  refine jw_istore (pc' := 101) (ls' := [some (vR 41 r0), some (vR 47 r1), some (vR 44 r2), some (vI x3), some (vI x4), some (vI x5), some (vI (0 : Int32)), none]) rfl (by decide) rfl ?_
  obtain ⟨n, w⟩ := w
  exact l_X8_checkInsert_101 hK64 n _ _ _ _ _ _ _ _ w
def W_X8_checkInsert_64 (D : JD) (d : Nat) (Q : JO → JH → Prop) (K64 : Nat → Nat → Nat → Int32 → Int32 → Int32 → JH → Prop) (r0 : Nat) (r1 : Nat) (r2 : Nat) (x3 : Int32) (x4 : Int32) (x5 : Int32) (h : JH) : Prop :=
  r1 ≠ 0 ∧ (((jfi h 281 r1) ≤ x5 → Q (.inl none) h) ∧ (¬ (jfi h 281 r1) ≤ x5 → (jfr h 280 r1) ≠ 0 ∧ jin x5 (jln h (jfr h 280 r1)) ∧ ((¬ ((jai h (jfr h 280 r1) (ixn x5)) - x4) = x3 → W_X8_checkInsert_93 D d Q K64 r0 r1 r2 x3 x4 x5 r0 (0 : Int32) h) ∧ (((jai h (jfr h 280 r1) (ixn x5)) - x4) = x3 → W_X8_checkInsert_93 D d Q K64 r0 r1 r2 x3 x4 x5 r0 (1 : Int32) h))))
theorem w_X8_checkInsert_64 {D : JD} {d : Nat} {Q : JO → JH → Prop} {K64 : Nat → Nat → Nat → Int32 → Int32 → Int32 → JH → Prop} {r0 : Nat} {r1 : Nat} {r2 : Nat} {x3 : Int32} {x4 : Int32} {x5 : Int32} {h : JH} (hK64 : ∀ (r0 : Nat) (r1 : Nat) (r2 : Nat) (x3 : Int32) (x4 : Int32) (x5 : Int32) (h : JH), K64 r0 r1 r2 x3 x4 x5 h → JW D (d + 1) mX8_checkInsert 64 [some (vR 41 r0), some (vR 47 r1), some (vR 44 r2), some (vI x3), some (vI x4), some (vI x5), none, none] [] h Q) (w : W_X8_checkInsert_64 D d Q K64 r0 r1 r2 x3 x4 x5 h) : JW D (d + 1) mX8_checkInsert 64 [some (vR 41 r0), some (vR 47 r1), some (vR 44 r2), some (vI x3), some (vI x4), some (vI x5), none, none] [] h Q := by
  unfold W_X8_checkInsert_64 at w
  refine jw_iload (pc' := 66) rfl rfl ?_
  refine jw_aload_n (pc' := 67) rfl rfl ?_
  obtain ⟨g_1, w⟩ := w
  refine jw_getI (pc' := 70) (F := 281) rfl rfl rfl rfl g_1 ?_
  refine jw_icmp_ge (tgt := 169) (pc' := 73) rfl rfl (fun c_2 => ?_) (fun c_2 => ?_)
  · replace w := w.1 c_2
    exact jw_return rfl rfl w
  · replace w := w.2 c_2
    refine jw_aload_n (pc' := 74) rfl rfl ?_
    refine jw_aload_n (pc' := 75) rfl rfl ?_
    refine jw_getR (pc' := 78) (F := 280) (t' := 203) rfl rfl rfl rfl rfl g_1 ?_
    refine jw_iload (pc' := 80) rfl rfl ?_
    obtain ⟨g_3, w⟩ := w
    obtain ⟨g_4, w⟩ := w
    refine jw_iald (pc' := 81) rfl rfl rfl rfl g_3 g_4.ix g_4.2 ?_
    refine jw_iload (pc' := 83) rfl rfl ?_
    refine jw_isub (pc' := 84) rfl ?_
    refine jw_iload_n (pc' := 85) rfl rfl ?_
    refine jw_icmp_ne (tgt := 92) (pc' := 88) rfl rfl (fun c_5 => ?_) (fun c_5 => ?_)
    · replace w := w.1 c_5
      refine jw_iconst (pc' := 93) (x := (0 : Int32)) rfl rfl ?_
      exact w_X8_checkInsert_93 hK64 w
    · replace w := w.2 c_5
      refine jw_iconst (pc' := 89) (x := (1 : Int32)) rfl rfl ?_
      refine jw_goto (pc' := 93) rfl rfl ?_
      exact w_X8_checkInsert_93 hK64 w
def L_X8_checkInsert_64 (D : JD) (d : Nat) (Q : JO → JH → Prop) : Nat → Nat → Nat → Nat → Int32 → Int32 → Int32 → JH → Prop
  | 0 => fun _ _ _ _ _ _ _ => False
  | n + 1 => fun r0 r1 r2 x3 x4 x5 h => W_X8_checkInsert_64 D d Q (L_X8_checkInsert_64 D d Q n) r0 r1 r2 x3 x4 x5 h
theorem l_X8_checkInsert_64 {D : JD} {d : Nat} {Q : JO → JH → Prop} : ∀ (n : Nat) (r0 : Nat) (r1 : Nat) (r2 : Nat) (x3 : Int32) (x4 : Int32) (x5 : Int32) (h : JH), L_X8_checkInsert_64 D d Q n r0 r1 r2 x3 x4 x5 h → JW D (d + 1) mX8_checkInsert 64 [some (vR 41 r0), some (vR 47 r1), some (vR 44 r2), some (vI x3), some (vI x4), some (vI x5), none, none] [] h Q := by
  intro n
  induction n with
  | zero => intro _ _ _ _ _ _ _ w; exact w.elim
  | succ n ih => intro _ _ _ _ _ _ h w; exact w_X8_checkInsert_64 ih w
def W_X8_checkInsert_57 (D : JD) (d : Nat) (Q : JO → JH → Prop) (r0 : Nat) (r1 : Nat) (r2 : Nat) (s0 : Int32) (h : JH) : Prop :=
  ∃ n, L_X8_checkInsert_64 D d Q n r0 r1 r2 s0 (0 : Int32) (0 : Int32) h
theorem w_X8_checkInsert_57 {D : JD} {d : Nat} {Q : JO → JH → Prop} {r0 : Nat} {r1 : Nat} {r2 : Nat} {s0 : Int32} {h : JH} (w : W_X8_checkInsert_57 D d Q r0 r1 r2 s0 h) : JW D (d + 1) mX8_checkInsert 57 [some (vR 41 r0), some (vR 47 r1), some (vR 44 r2), none, none, none, none, none] [vI s0] h Q := by
  unfold W_X8_checkInsert_57 at w
  refine jw_istore_n (pc' := 58) (ls' := [some (vR 41 r0), some (vR 47 r1), some (vR 44 r2), some (vI s0), none, none, none, none]) rfl (by decide) rfl ?_
  refine jw_iconst (pc' := 59) (x := (0 : Int32)) rfl rfl ?_
  refine jw_istore (pc' := 61) (ls' := [some (vR 41 r0), some (vR 47 r1), some (vR 44 r2), some (vI s0), some (vI (0 : Int32)), none, none, none]) rfl (by decide) rfl ?_
  refine jw_iconst (pc' := 62) (x := (0 : Int32)) rfl rfl ?_
  refine jw_istore (pc' := 64) (ls' := [some (vR 41 r0), some (vR 47 r1), some (vR 44 r2), some (vI s0), some (vI (0 : Int32)), some (vI (0 : Int32)), none, none]) rfl (by decide) rfl ?_
  obtain ⟨n, w⟩ := w
  exact l_X8_checkInsert_64 n _ _ _ _ _ _ _ w
def W_X8_checkInsert_18 (D : JD) (d : Nat) (Q : JO → JH → Prop) (K18 : Nat → Nat → Nat → Int32 → JH → Prop) (r0 : Nat) (r1 : Nat) (r2 : Nat) (x3 : Int32) (h : JH) : Prop :=
  r1 ≠ 0 ∧ (((jfi h 273 r1) ≤ x3 → ((jfi h 277 r1) = 0 → r2 ≠ 0 ∧ (W_X8_checkInsert_57 D d Q r0 r1 r2 (jfi h 250 r2) h)) ∧ (¬ (jfi h 277 r1) = 0 → W_X8_checkInsert_57 D d Q r0 r1 r2 (jfi h 273 r1) h)) ∧ (¬ (jfi h 273 r1) ≤ x3 → r0 ≠ 0 ∧ (cX8_columnOf D d r0 r1 x3 h (pI D h (fun v_8 h_6 => K18 r0 r1 r2 (x3 + (1 : Int32)) h_6) (jth Q)))))
theorem w_X8_checkInsert_18 {D : JD} {d : Nat} {Q : JO → JH → Prop} {K18 : Nat → Nat → Nat → Int32 → JH → Prop} {r0 : Nat} {r1 : Nat} {r2 : Nat} {x3 : Int32} {h : JH} (hK18 : ∀ (r0 : Nat) (r1 : Nat) (r2 : Nat) (x3 : Int32) (h : JH), K18 r0 r1 r2 x3 h → JW D (d + 1) mX8_checkInsert 18 [some (vR 41 r0), some (vR 47 r1), some (vR 44 r2), some (vI x3), none, none, none, none] [] h Q) (w : W_X8_checkInsert_18 D d Q K18 r0 r1 r2 x3 h) : JW D (d + 1) mX8_checkInsert 18 [some (vR 41 r0), some (vR 47 r1), some (vR 44 r2), some (vI x3), none, none, none, none] [] h Q := by
  unfold W_X8_checkInsert_18 at w
  refine jw_iload_n (pc' := 19) rfl rfl ?_
  refine jw_aload_n (pc' := 20) rfl rfl ?_
  obtain ⟨g_1, w⟩ := w
  refine jw_getI (pc' := 23) (F := 273) rfl rfl rfl rfl g_1 ?_
  refine jw_icmp_ge (tgt := 39) (pc' := 26) rfl rfl (fun c_2 => ?_) (fun c_2 => ?_)
  · replace w := w.1 c_2
    refine jw_aload_n (pc' := 40) rfl rfl ?_
    refine jw_getI (pc' := 43) (F := 277) rfl rfl rfl rfl g_1 ?_
    refine jw_if_eq (tgt := 53) (pc' := 46) rfl rfl (fun c_3 => ?_) (fun c_3 => ?_)
    · replace w := w.1 c_3
      refine jw_aload_n (pc' := 54) rfl rfl ?_
      obtain ⟨g_4, w⟩ := w
      refine jw_getI (pc' := 57) (F := 250) rfl rfl rfl rfl g_4 ?_
      refine jw_gen (ls' := [some (vR 41 r0), some (vR 47 r1), some (vR 44 r2), none, none, none, none, none]) (st' := [vI (jfi h 250 r2)]) (And.intro (Or.inl rfl) (And.intro (Or.inl rfl) (And.intro (Or.inl rfl) (trivial)))) (And.intro (Or.inl rfl) (trivial)) ?_
      exact w_X8_checkInsert_57 w
    · replace w := w.2 c_3
      refine jw_aload_n (pc' := 47) rfl rfl ?_
      refine jw_getI (pc' := 50) (F := 273) rfl rfl rfl rfl g_1 ?_
      refine jw_goto (pc' := 57) rfl rfl ?_
      refine jw_gen (ls' := [some (vR 41 r0), some (vR 47 r1), some (vR 44 r2), none, none, none, none, none]) (st' := [vI (jfi h 273 r1)]) (And.intro (Or.inl rfl) (And.intro (Or.inl rfl) (And.intro (Or.inl rfl) (trivial)))) (And.intro (Or.inl rfl) (trivial)) ?_
      exact w_X8_checkInsert_57 w
  · replace w := w.2 c_2
    refine jw_aload_n (pc' := 27) rfl rfl ?_
    refine jw_aload_n (pc' := 28) rfl rfl ?_
    refine jw_iload_n (pc' := 29) rfl rfl ?_
    obtain ⟨g_5, w⟩ := w
    refine jw_cI (st := []) (sa := [vR 41 r0, vR 47 r1, vI x3]) okX8_columnOf rfl rfl rfl rfl rfl rfl (jstp_virtual (sa := [vR 47 r1, vI x3]) (st := []) (k := 0) rfl rfl sX8_columnOf okX8_columnOf g_5 (one41.k g_5) rfl rfl) w (fun v_8 h_6 _ _ w => ?_)
    refine jw_pop (pc' := 33) rfl rfl ?_
    refine jw_iinc (pc' := 36) (y := x3 + (1 : Int32)) (ls' := [some (vR 41 r0), some (vR 47 r1), some (vR 44 r2), some (vI (x3 + (1 : Int32))), none, none, none, none]) rfl (by decide) rfl rfl rfl ?_
    refine jw_goto (pc' := 18) rfl rfl ?_
    exact hK18 _ _ _ _ _ w
def L_X8_checkInsert_18 (D : JD) (d : Nat) (Q : JO → JH → Prop) : Nat → Nat → Nat → Nat → Int32 → JH → Prop
  | 0 => fun _ _ _ _ _ => False
  | n + 1 => fun r0 r1 r2 x3 h => W_X8_checkInsert_18 D d Q (L_X8_checkInsert_18 D d Q n) r0 r1 r2 x3 h
theorem l_X8_checkInsert_18 {D : JD} {d : Nat} {Q : JO → JH → Prop} : ∀ (n : Nat) (r0 : Nat) (r1 : Nat) (r2 : Nat) (x3 : Int32) (h : JH), L_X8_checkInsert_18 D d Q n r0 r1 r2 x3 h → JW D (d + 1) mX8_checkInsert 18 [some (vR 41 r0), some (vR 47 r1), some (vR 44 r2), some (vI x3), none, none, none, none] [] h Q := by
  intro n
  induction n with
  | zero => intro _ _ _ _ _ w; exact w.elim
  | succ n ih => intro _ _ _ _ h w; exact w_X8_checkInsert_18 ih w
def W_X8_checkInsert_0 (D : JD) (d : Nat) (Q : JO → JH → Prop) (r0 : Nat) (r1 : Nat) (h : JH) : Prop :=
  r1 ≠ 0 ∧ (r0 ≠ 0 ∧ (cX8_table D d r0 (jfr h 271 r1) h (pR D h 44 (fun v_5 h_3 => (jfr h_3 200 r0) ≠ 0 ∧ jin (0 : Int32) (jln h_3 (jfr h_3 200 r0)) ∧ ∀ h_8 : JH, h_8 = war h_3 (jfr h_3 200 r0) (ixn (0 : Int32)) v_5 → (∃ n, L_X8_checkInsert_18 D d Q n r0 r1 v_5 (0 : Int32) h_8)) (jth Q))))
theorem w_X8_checkInsert_0 {D : JD} {d : Nat} {Q : JO → JH → Prop} {r0 : Nat} {r1 : Nat} {h : JH} (w : W_X8_checkInsert_0 D d Q r0 r1 h) : JW D (d + 1) mX8_checkInsert 0 [some (vR 41 r0), some (vR 47 r1), none, none, none, none, none, none] [] h Q := by
  unfold W_X8_checkInsert_0 at w
  refine jw_aload_n (pc' := 1) rfl rfl ?_
  refine jw_aload_n (pc' := 2) rfl rfl ?_
  obtain ⟨g_1, w⟩ := w
  refine jw_getR (pc' := 5) (F := 271) (t' := 64) rfl rfl rfl rfl rfl g_1 ?_
  obtain ⟨g_2, w⟩ := w
  refine jw_cR (st := []) (sa := [vR 41 r0, vR 64 (jfr h 271 r1)]) okX8_table rfl rfl rfl rfl rfl rfl (jstp_virtual (sa := [vR 64 (jfr h 271 r1)]) (st := []) (k := 0) rfl rfl sX8_table okX8_table g_2 (one41.k g_2) rfl rfl) w (fun v_5 h_3 _ _ _ w => ?_)
  refine jw_astore_n (pc' := 9) (ls' := [some (vR 41 r0), some (vR 47 r1), some (vR 44 v_5), none, none, none, none, none]) rfl (by decide) rfl ?_
  refine jw_aload_n (pc' := 10) rfl rfl ?_
  refine jw_getR (pc' := 13) (F := 200) (t' := 167) rfl rfl rfl rfl rfl g_2 ?_
  refine jw_iconst (pc' := 14) (x := (0 : Int32)) rfl rfl ?_
  refine jw_aload_n (pc' := 15) rfl rfl ?_
  obtain ⟨g_6, w⟩ := w
  obtain ⟨g_7, w⟩ := w
  refine jw_aast' (pc' := 16) rfl rfl rfl rfl rfl rfl g_6 g_7 (fun h_8 e_9 => ?_)
  replace w := w h_8 e_9
  refine jw_iconst (pc' := 17) (x := (0 : Int32)) rfl rfl ?_
  refine jw_istore_n (pc' := 18) (ls' := [some (vR 41 r0), some (vR 47 r1), some (vR 44 v_5), some (vI (0 : Int32)), none, none, none, none]) rfl (by decide) rfl ?_
  obtain ⟨n, w⟩ := w
  exact l_X8_checkInsert_18 n _ _ _ _ _ w
def T_X8_checkInsert (D : JD) (d : Nat) (Q : JO → JH → Prop) (r0 : Nat) (r1 : Nat) (h : JH) : Prop := W_X8_checkInsert_0 D d Q r0 r1 h
theorem t_X8_checkInsert {D : JD} {d : Nat} {Q : JO → JH → Prop} {r0 : Nat} {r1 : Nat} {h : JH} (w : T_X8_checkInsert D d Q r0 r1 h) : cX8_checkInsert D (d + 1) r0 r1 h Q := by
  unfold T_X8_checkInsert at w
  unfold cX8_checkInsert
  exact w_X8_checkInsert_0 w
def W_X8_columnOf_66 (D : JD) (d : Nat) (Q : JO → JH → Prop) (K35 : Nat → Nat → Int32 → Int32 → Int32 → JH → Prop) (r0 : Nat) (r1 : Nat) (x2 : Int32) (x3 : Int32) (x4 : Int32) (q0 : Nat) (s1 : Int32) (h : JH) : Prop :=
  q0 ≠ 0 ∧ (cX8_must D d q0 s1 (jcs D 301) h (pV D h (fun h_2 => K35 r0 r1 x2 x3 (x4 + (1 : Int32)) h_2) (jth Q)))
theorem w_X8_columnOf_66 {D : JD} {d : Nat} {Q : JO → JH → Prop} {K35 : Nat → Nat → Int32 → Int32 → Int32 → JH → Prop} {r0 : Nat} {r1 : Nat} {x2 : Int32} {x3 : Int32} {x4 : Int32} {q0 : Nat} {s1 : Int32} {h : JH} (hK35 : ∀ (r0 : Nat) (r1 : Nat) (x2 : Int32) (x3 : Int32) (x4 : Int32) (h : JH), K35 r0 r1 x2 x3 x4 h → JW D (d + 1) mX8_columnOf 35 [some (vR 41 r0), some (vR 47 r1), some (vI x2), some (vI x3), some (vI x4)] [] h Q) (w : W_X8_columnOf_66 D d Q K35 r0 r1 x2 x3 x4 q0 s1 h) : JW D (d + 1) mX8_columnOf 66 [some (vR 41 r0), some (vR 47 r1), some (vI x2), some (vI x3), some (vI x4)] [vI s1, vR 41 q0] h Q := by
  unfold W_X8_columnOf_66 at w
  refine jw_ldcwS (pc' := 69) rfl rfl rfl rfl ?_
  obtain ⟨g_1, w⟩ := w
  refine jw_cV (st := []) (sa := [vR 41 q0, vI s1, vR 51 (jcs D 301)]) okX8_must rfl rfl rfl rfl rfl rfl (jstp_virtual (sa := [vI s1, vR 51 (jcs D 301)]) (st := []) (k := 0) rfl rfl sX8_must okX8_must g_1 (one41.k g_1) rfl rfl) w (fun h_2 _ _ w => ?_)
  refine jw_iinc (pc' := 75) (y := x4 + (1 : Int32)) (ls' := [some (vR 41 r0), some (vR 47 r1), some (vI x2), some (vI x3), some (vI (x4 + (1 : Int32)))]) rfl (by decide) rfl rfl rfl ?_
  refine jw_goto (pc' := 35) rfl rfl ?_
  exact hK35 _ _ _ _ _ _ w
def W_X8_columnOf_35 (D : JD) (d : Nat) (Q : JO → JH → Prop) (K35 : Nat → Nat → Int32 → Int32 → Int32 → JH → Prop) (r0 : Nat) (r1 : Nat) (x2 : Int32) (x3 : Int32) (x4 : Int32) (h : JH) : Prop :=
  (x2 ≤ x4 → Q (.inl (some (vI x3))) h) ∧ (¬ x2 ≤ x4 → r1 ≠ 0 ∧ ((jfr h 272 r1) ≠ 0 ∧ jin x4 (jln h (jfr h 272 r1)) ∧ (jin x2 (jln h (jfr h 272 r1)) ∧ ((jar h (jfr h 272 r1) (ixn x4)) ≠ 0 ∧ (cJ5_equals D d (jar h (jfr h 272 r1) (ixn x4)) (jar h (jfr h 272 r1) (ixn x2)) h (pI D h (fun v_9 h_7 => (¬ v_9 = 0 → W_X8_columnOf_66 D d Q K35 r0 r1 x2 x3 x4 r0 (0 : Int32) h_7) ∧ (v_9 = 0 → W_X8_columnOf_66 D d Q K35 r0 r1 x2 x3 x4 r0 (1 : Int32) h_7)) (jth Q)))))))
theorem w_X8_columnOf_35 {D : JD} {d : Nat} {Q : JO → JH → Prop} {K35 : Nat → Nat → Int32 → Int32 → Int32 → JH → Prop} {r0 : Nat} {r1 : Nat} {x2 : Int32} {x3 : Int32} {x4 : Int32} {h : JH} (hK35 : ∀ (r0 : Nat) (r1 : Nat) (x2 : Int32) (x3 : Int32) (x4 : Int32) (h : JH), K35 r0 r1 x2 x3 x4 h → JW D (d + 1) mX8_columnOf 35 [some (vR 41 r0), some (vR 47 r1), some (vI x2), some (vI x3), some (vI x4)] [] h Q) (w : W_X8_columnOf_35 D d Q K35 r0 r1 x2 x3 x4 h) : JW D (d + 1) mX8_columnOf 35 [some (vR 41 r0), some (vR 47 r1), some (vI x2), some (vI x3), some (vI x4)] [] h Q := by
  unfold W_X8_columnOf_35 at w
  refine jw_iload (pc' := 37) rfl rfl ?_
  refine jw_iload_n (pc' := 38) rfl rfl ?_
  refine jw_icmp_ge (tgt := 78) (pc' := 41) rfl rfl (fun c_1 => ?_) (fun c_1 => ?_)
  · replace w := w.1 c_1
    refine jw_iload_n (pc' := 79) rfl rfl ?_
    exact jw_ireturn rfl rfl (rfl) w
  · replace w := w.2 c_1
    refine jw_aload_n (pc' := 42) rfl rfl ?_
    refine jw_aload_n (pc' := 43) rfl rfl ?_
    obtain ⟨g_2, w⟩ := w
    refine jw_getR (pc' := 46) (F := 272) (t' := 198) rfl rfl rfl rfl rfl g_2 ?_
    refine jw_iload (pc' := 48) rfl rfl ?_
    obtain ⟨g_3, w⟩ := w
    obtain ⟨g_4, w⟩ := w
    refine jw_aald (pc' := 49) (t' := 64) rfl rfl rfl rfl g_3 g_4.ix g_4.2 ?_
    refine jw_aload_n (pc' := 50) rfl rfl ?_
    refine jw_getR (pc' := 53) (F := 272) (t' := 198) rfl rfl rfl rfl rfl g_2 ?_
    refine jw_iload_n (pc' := 54) rfl rfl ?_
    obtain ⟨g_5, w⟩ := w
    refine jw_aald (pc' := 55) (t' := 64) rfl rfl rfl rfl g_3 g_5.ix g_5.2 ?_
    obtain ⟨g_6, w⟩ := w
    refine jw_cI (st := [vR 41 r0]) (sa := [vR 64 (jar h (jfr h 272 r1) (ixn x4)), vR 64 (jar h (jfr h 272 r1) (ixn x2))]) okJ5_equals rfl rfl rfl rfl rfl rfl (jstp_virtual (sa := [vR 64 (jar h (jfr h 272 r1) (ixn x2))]) (st := [vR 41 r0]) (k := 0) rfl rfl sJ5_equals okJ5_equals g_6 (one64.k g_6) rfl rfl) w (fun v_9 h_7 _ _ w => ?_)
    refine jw_if_ne (tgt := 65) (pc' := 61) rfl rfl (fun c_10 => ?_) (fun c_10 => ?_)
    · replace w := w.1 c_10
      refine jw_iconst (pc' := 66) (x := (0 : Int32)) rfl rfl ?_
      exact w_X8_columnOf_66 hK35 w
    · replace w := w.2 c_10
      refine jw_iconst (pc' := 62) (x := (1 : Int32)) rfl rfl ?_
      refine jw_goto (pc' := 66) rfl rfl ?_
      exact w_X8_columnOf_66 hK35 w
def L_X8_columnOf_35 (D : JD) (d : Nat) (Q : JO → JH → Prop) : Nat → Nat → Nat → Int32 → Int32 → Int32 → JH → Prop
  | 0 => fun _ _ _ _ _ _ => False
  | n + 1 => fun r0 r1 x2 x3 x4 h => W_X8_columnOf_35 D d Q (L_X8_columnOf_35 D d Q n) r0 r1 x2 x3 x4 h
theorem l_X8_columnOf_35 {D : JD} {d : Nat} {Q : JO → JH → Prop} : ∀ (n : Nat) (r0 : Nat) (r1 : Nat) (x2 : Int32) (x3 : Int32) (x4 : Int32) (h : JH), L_X8_columnOf_35 D d Q n r0 r1 x2 x3 x4 h → JW D (d + 1) mX8_columnOf 35 [some (vR 41 r0), some (vR 47 r1), some (vI x2), some (vI x3), some (vI x4)] [] h Q := by
  intro n
  induction n with
  | zero => intro _ _ _ _ _ _ w; exact w.elim
  | succ n ih => intro _ _ _ _ _ h w; exact w_X8_columnOf_35 ih w
def W_X8_columnOf_26 (D : JD) (d : Nat) (Q : JO → JH → Prop) (r0 : Nat) (r1 : Nat) (x2 : Int32) (x3 : Int32) (q0 : Nat) (s1 : Int32) (h : JH) : Prop :=
  q0 ≠ 0 ∧ (cX8_must D d q0 s1 (jcs D 304) h (pV D h (fun h_2 => ∃ n, L_X8_columnOf_35 D d Q n r0 r1 x2 x3 (0 : Int32) h_2) (jth Q)))
theorem w_X8_columnOf_26 {D : JD} {d : Nat} {Q : JO → JH → Prop} {r0 : Nat} {r1 : Nat} {x2 : Int32} {x3 : Int32} {q0 : Nat} {s1 : Int32} {h : JH} (w : W_X8_columnOf_26 D d Q r0 r1 x2 x3 q0 s1 h) : JW D (d + 1) mX8_columnOf 26 [some (vR 41 r0), some (vR 47 r1), some (vI x2), some (vI x3), none] [vI s1, vR 41 q0] h Q := by
  unfold W_X8_columnOf_26 at w
  refine jw_ldcwS (pc' := 29) rfl rfl rfl rfl ?_
  obtain ⟨g_1, w⟩ := w
  refine jw_cV (st := []) (sa := [vR 41 q0, vI s1, vR 51 (jcs D 304)]) okX8_must rfl rfl rfl rfl rfl rfl (jstp_virtual (sa := [vI s1, vR 51 (jcs D 304)]) (st := []) (k := 0) rfl rfl sX8_must okX8_must g_1 (one41.k g_1) rfl rfl) w (fun h_2 _ _ w => ?_)
  refine jw_iconst (pc' := 33) (x := (0 : Int32)) rfl rfl ?_
  refine jw_istore (pc' := 35) (ls' := [some (vR 41 r0), some (vR 47 r1), some (vI x2), some (vI x3), some (vI (0 : Int32))]) rfl (by decide) rfl ?_
  obtain ⟨n, w⟩ := w
  exact l_X8_columnOf_35 n _ _ _ _ _ _ w
def W_X8_columnOf_0 (D : JD) (d : Nat) (Q : JO → JH → Prop) (r0 : Nat) (r1 : Nat) (x2 : Int32) (h : JH) : Prop :=
  r0 ≠ 0 ∧ ((jfr h 200 r0) ≠ 0 ∧ jin (0 : Int32) (jln h (jfr h 200 r0)) ∧ (r1 ≠ 0 ∧ ((jfr h 272 r1) ≠ 0 ∧ jin x2 (jln h (jfr h 272 r1)) ∧ ((jar h (jfr h 200 r0) (ixn (0 : Int32))) ≠ 0 ∧ (cX11_find D d (jar h (jfr h 200 r0) (ixn (0 : Int32))) (jar h (jfr h 272 r1) (ixn x2)) h (pI D h (fun v_10 h_8 => (v_10 < 0 → W_X8_columnOf_26 D d Q r0 r1 x2 v_10 r0 (0 : Int32) h_8) ∧ (¬ v_10 < 0 → W_X8_columnOf_26 D d Q r0 r1 x2 v_10 r0 (1 : Int32) h_8)) (jth Q)))))))
theorem w_X8_columnOf_0 {D : JD} {d : Nat} {Q : JO → JH → Prop} {r0 : Nat} {r1 : Nat} {x2 : Int32} {h : JH} (w : W_X8_columnOf_0 D d Q r0 r1 x2 h) : JW D (d + 1) mX8_columnOf 0 [some (vR 41 r0), some (vR 47 r1), some (vI x2), none, none] [] h Q := by
  unfold W_X8_columnOf_0 at w
  refine jw_aload_n (pc' := 1) rfl rfl ?_
  obtain ⟨g_1, w⟩ := w
  refine jw_getR (pc' := 4) (F := 200) (t' := 167) rfl rfl rfl rfl rfl g_1 ?_
  refine jw_iconst (pc' := 5) (x := (0 : Int32)) rfl rfl ?_
  obtain ⟨g_2, w⟩ := w
  obtain ⟨g_3, w⟩ := w
  refine jw_aald (pc' := 6) (t' := 44) rfl rfl rfl rfl g_2 g_3.ix g_3.2 ?_
  refine jw_aload_n (pc' := 7) rfl rfl ?_
  obtain ⟨g_4, w⟩ := w
  refine jw_getR (pc' := 10) (F := 272) (t' := 198) rfl rfl rfl rfl rfl g_4 ?_
  refine jw_iload_n (pc' := 11) rfl rfl ?_
  obtain ⟨g_5, w⟩ := w
  obtain ⟨g_6, w⟩ := w
  refine jw_aald (pc' := 12) (t' := 64) rfl rfl rfl rfl g_5 g_6.ix g_6.2 ?_
  obtain ⟨g_7, w⟩ := w
  refine jw_cI (st := []) (sa := [vR 44 (jar h (jfr h 200 r0) (ixn (0 : Int32))), vR 64 (jar h (jfr h 272 r1) (ixn x2))]) okX11_find rfl rfl rfl rfl rfl rfl (jstp_virtual (sa := [vR 64 (jar h (jfr h 272 r1) (ixn x2))]) (st := []) (k := 0) rfl rfl sX11_find okX11_find g_7 (one44.k g_7) rfl rfl) w (fun v_10 h_8 _ _ w => ?_)
  refine jw_istore_n (pc' := 16) (ls' := [some (vR 41 r0), some (vR 47 r1), some (vI x2), some (vI v_10), none]) rfl (by decide) rfl ?_
  refine jw_aload_n (pc' := 17) rfl rfl ?_
  refine jw_iload_n (pc' := 18) rfl rfl ?_
  refine jw_if_lt (tgt := 25) (pc' := 21) rfl rfl (fun c_11 => ?_) (fun c_11 => ?_)
  · replace w := w.1 c_11
    refine jw_iconst (pc' := 26) (x := (0 : Int32)) rfl rfl ?_
    exact w_X8_columnOf_26 w
  · replace w := w.2 c_11
    refine jw_iconst (pc' := 22) (x := (1 : Int32)) rfl rfl ?_
    refine jw_goto (pc' := 26) rfl rfl ?_
    exact w_X8_columnOf_26 w
def T_X8_columnOf (D : JD) (d : Nat) (Q : JO → JH → Prop) (r0 : Nat) (r1 : Nat) (x2 : Int32) (h : JH) : Prop := W_X8_columnOf_0 D d Q r0 r1 x2 h
theorem t_X8_columnOf {D : JD} {d : Nat} {Q : JO → JH → Prop} {r0 : Nat} {r1 : Nat} {x2 : Int32} {h : JH} (w : T_X8_columnOf D d Q r0 r1 x2 h) : cX8_columnOf D (d + 1) r0 r1 x2 h Q := by
  unfold T_X8_columnOf at w
  unfold cX8_columnOf
  exact w_X8_columnOf_0 w
def W_X8_check_2_35 (D : JD) (d : Nat) (Q : JO → JH → Prop) (K2 : Nat → Nat → Int32 → JH → Prop) (r0 : Nat) (r1 : Nat) (x2 : Int32) (x3 : Int32) (h : JH) : Prop :=
  r1 ≠ 0 ∧ ((jfr h 310 r1) ≠ 0 ∧ jin x2 (jln h (jfr h 310 r1)) ∧ (r0 ≠ 0 ∧ (cX8_check_2 D d r0 (jar h (jfr h 310 r1) (ixn x2)) h (pI D h (fun v_7 h_5 => jbo x3 ∧ ∀ h_9 : JH, h_9 = wfi h_5 202 r0 x3 → (K2 r0 r1 (x2 + (1 : Int32)) h_9)) (jth Q)))))
theorem w_X8_check_2_35 {D : JD} {d : Nat} {Q : JO → JH → Prop} {K2 : Nat → Nat → Int32 → JH → Prop} {r0 : Nat} {r1 : Nat} {x2 : Int32} {x3 : Int32} {h : JH} (hK2 : ∀ (r0 : Nat) (r1 : Nat) (x2 : Int32) (h : JH), K2 r0 r1 x2 h → JW D (d + 1) mX8_check_2 2 [some (vR 41 r0), some (vR 48 r1), some (vI x2), none] [] h Q) (w : W_X8_check_2_35 D d Q K2 r0 r1 x2 x3 h) : JW D (d + 1) mX8_check_2 35 [some (vR 41 r0), some (vR 48 r1), some (vI x2), some (vI x3)] [] h Q := by
  unfold W_X8_check_2_35 at w
  refine jw_aload_n (pc' := 36) rfl rfl ?_
  refine jw_aload_n (pc' := 37) rfl rfl ?_
  obtain ⟨g_1, w⟩ := w
  refine jw_getR (pc' := 40) (F := 310) (t' := 215) rfl rfl rfl rfl rfl g_1 ?_
  refine jw_iload_n (pc' := 41) rfl rfl ?_
  obtain ⟨g_2, w⟩ := w
  obtain ⟨g_3, w⟩ := w
  refine jw_aald (pc' := 42) (t' := 48) rfl rfl rfl rfl g_2 g_3.ix g_3.2 ?_
  obtain ⟨g_4, w⟩ := w
  refine jw_cI (st := []) (sa := [vR 41 r0, vR 48 (jar h (jfr h 310 r1) (ixn x2))]) okX8_check_2 rfl rfl rfl rfl rfl rfl (jstp_virtual (sa := [vR 48 (jar h (jfr h 310 r1) (ixn x2))]) (st := []) (k := 0) rfl rfl sX8_check_2 okX8_check_2 g_4 (one41.k g_4) rfl rfl) w (fun v_7 h_5 _ _ w => ?_)
  refine jw_pop (pc' := 46) rfl rfl ?_
  refine jw_aload_n (pc' := 47) rfl rfl ?_
  refine jw_iload_n (pc' := 48) rfl rfl ?_
  obtain ⟨g_8, w⟩ := w
  refine jw_putI' (pc' := 51) (F := 202) rfl rfl rfl (Or.inr rfl) (Or.inl rfl) rfl (g_8.nr) (g_8.ft) rfl g_4 (fun h_9 e_10 => ?_)
  replace w := w h_9 e_10
  refine jw_iinc (pc' := 54) (y := x2 + (1 : Int32)) (ls' := [some (vR 41 r0), some (vR 48 r1), some (vI (x2 + (1 : Int32))), some (vI x3)]) rfl (by decide) rfl rfl rfl ?_
  refine jw_goto (pc' := 2) rfl rfl ?_
  refine jw_gen (ls' := [some (vR 41 r0), some (vR 48 r1), some (vI (x2 + (1 : Int32))), none]) (st' := []) (And.intro (Or.inl rfl) (And.intro (Or.inl rfl) (And.intro (Or.inl rfl) (trivial)))) (trivial) ?_
  exact hK2 _ _ _ _ w
def W_X8_check_2_2 (D : JD) (d : Nat) (Q : JO → JH → Prop) (K2 : Nat → Nat → Int32 → JH → Prop) (r0 : Nat) (r1 : Nat) (x2 : Int32) (h : JH) : Prop :=
  r1 ≠ 0 ∧ (((jfi h 311 r1) ≤ x2 → r0 ≠ 0 ∧ (cX8_typeOf D d r0 r1 h (pI D h (fun v_6 h_4 => ∀ h_7 : JH, h_7 = wfi h_4 312 r1 v_6 → (Q (.inl (some (vI (jfi h_7 312 r1)))) h_7)) (jth Q)))) ∧ (¬ (jfi h 311 r1) ≤ x2 → r0 ≠ 0 ∧ ((¬ (jfi h 305 r1) = (3 : Int32) → W_X8_check_2_35 D d Q K2 r0 r1 x2 (jfi h 202 r0) h) ∧ ((jfi h 305 r1) = (3 : Int32) → cX8_isGather D d r1 h (pI D h (fun v_13 h_11 => (v_13 = 0 → W_X8_check_2_35 D d Q K2 r0 r1 x2 (jfi h 202 r0) h_11) ∧ (¬ v_13 = 0 → ∀ h_15 : JH, h_15 = wfi h_11 202 r0 (1 : Int32) → (W_X8_check_2_35 D d Q K2 r0 r1 x2 (jfi h 202 r0) h_15))) (jth Q))))))
theorem w_X8_check_2_2 {D : JD} {d : Nat} {Q : JO → JH → Prop} {K2 : Nat → Nat → Int32 → JH → Prop} {r0 : Nat} {r1 : Nat} {x2 : Int32} {h : JH} (hK2 : ∀ (r0 : Nat) (r1 : Nat) (x2 : Int32) (h : JH), K2 r0 r1 x2 h → JW D (d + 1) mX8_check_2 2 [some (vR 41 r0), some (vR 48 r1), some (vI x2), none] [] h Q) (w : W_X8_check_2_2 D d Q K2 r0 r1 x2 h) : JW D (d + 1) mX8_check_2 2 [some (vR 41 r0), some (vR 48 r1), some (vI x2), none] [] h Q := by
  unfold W_X8_check_2_2 at w
  refine jw_iload_n (pc' := 3) rfl rfl ?_
  refine jw_aload_n (pc' := 4) rfl rfl ?_
  obtain ⟨g_1, w⟩ := w
  refine jw_getI (pc' := 7) (F := 311) rfl rfl rfl rfl g_1 ?_
  refine jw_icmp_ge (tgt := 57) (pc' := 10) rfl rfl (fun c_2 => ?_) (fun c_2 => ?_)
  · replace w := w.1 c_2
    refine jw_aload_n (pc' := 58) rfl rfl ?_
    refine jw_aload_n (pc' := 59) rfl rfl ?_
    refine jw_aload_n (pc' := 60) rfl rfl ?_
    obtain ⟨g_3, w⟩ := w
    refine jw_cI (st := [vR 48 r1]) (sa := [vR 41 r0, vR 48 r1]) okX8_typeOf rfl rfl rfl rfl rfl rfl (jstp_virtual (sa := [vR 48 r1]) (st := [vR 48 r1]) (k := 0) rfl rfl sX8_typeOf okX8_typeOf g_3 (one41.k g_3) rfl rfl) w (fun v_6 h_4 _ _ w => ?_)
    refine jw_putI' (pc' := 66) (F := 312) rfl rfl rfl (Or.inr rfl) (Or.inl rfl) rfl (rfl) (rfl) rfl g_1 (fun h_7 e_8 => ?_)
    replace w := w h_7 e_8
    refine jw_aload_n (pc' := 67) rfl rfl ?_
    refine jw_getI (pc' := 70) (F := 312) rfl rfl rfl rfl g_1 ?_
    exact jw_ireturn rfl rfl (rfl) w
  · replace w := w.2 c_2
    refine jw_aload_n (pc' := 11) rfl rfl ?_
    obtain ⟨g_9, w⟩ := w
    refine jw_getI (pc' := 14) (F := 202) rfl rfl rfl rfl g_9 ?_
    refine jw_istore_n (pc' := 15) (ls' := [some (vR 41 r0), some (vR 48 r1), some (vI x2), some (vI (jfi h 202 r0))]) rfl (by decide) rfl ?_
    refine jw_aload_n (pc' := 16) rfl rfl ?_
    refine jw_getI (pc' := 19) (F := 305) rfl rfl rfl rfl g_1 ?_
    refine jw_iconst (pc' := 20) (x := (3 : Int32)) rfl rfl ?_
    refine jw_icmp_ne (tgt := 35) (pc' := 23) rfl rfl (fun c_10 => ?_) (fun c_10 => ?_)
    · replace w := w.1 c_10
      exact w_X8_check_2_35 hK2 w
    · replace w := w.2 c_10
      refine jw_aload_n (pc' := 24) rfl rfl ?_
      refine jw_cI (st := []) (sa := [vR 48 r1]) okX8_isGather rfl rfl rfl rfl rfl rfl (jstp_static (sa := [vR 48 r1]) (st := []) rfl rfl sX8_isGather okX8_isGather rfl rfl) w (fun v_13 h_11 _ _ w => ?_)
      refine jw_if_eq (tgt := 35) (pc' := 30) rfl rfl (fun c_14 => ?_) (fun c_14 => ?_)
      · replace w := w.1 c_14
        exact w_X8_check_2_35 hK2 w
      · replace w := w.2 c_14
        refine jw_aload_n (pc' := 31) rfl rfl ?_
        refine jw_iconst (pc' := 32) (x := (1 : Int32)) rfl rfl ?_
        refine jw_putI' (pc' := 35) (F := 202) rfl rfl rfl (Or.inr rfl) (Or.inl rfl) rfl (rfl) (rfl) rfl g_9 (fun h_15 e_16 => ?_)
        replace w := w h_15 e_16
        exact w_X8_check_2_35 hK2 w
def L_X8_check_2_2 (D : JD) (d : Nat) (Q : JO → JH → Prop) : Nat → Nat → Nat → Int32 → JH → Prop
  | 0 => fun _ _ _ _ => False
  | n + 1 => fun r0 r1 x2 h => W_X8_check_2_2 D d Q (L_X8_check_2_2 D d Q n) r0 r1 x2 h
theorem l_X8_check_2_2 {D : JD} {d : Nat} {Q : JO → JH → Prop} : ∀ (n : Nat) (r0 : Nat) (r1 : Nat) (x2 : Int32) (h : JH), L_X8_check_2_2 D d Q n r0 r1 x2 h → JW D (d + 1) mX8_check_2 2 [some (vR 41 r0), some (vR 48 r1), some (vI x2), none] [] h Q := by
  intro n
  induction n with
  | zero => intro _ _ _ _ w; exact w.elim
  | succ n ih => intro _ _ _ h w; exact w_X8_check_2_2 ih w
def W_X8_check_2_0 (D : JD) (d : Nat) (Q : JO → JH → Prop) (r0 : Nat) (r1 : Nat) (h : JH) : Prop :=
  ∃ n, L_X8_check_2_2 D d Q n r0 r1 (0 : Int32) h
theorem w_X8_check_2_0 {D : JD} {d : Nat} {Q : JO → JH → Prop} {r0 : Nat} {r1 : Nat} {h : JH} (w : W_X8_check_2_0 D d Q r0 r1 h) : JW D (d + 1) mX8_check_2 0 [some (vR 41 r0), some (vR 48 r1), none, none] [] h Q := by
  unfold W_X8_check_2_0 at w
  refine jw_iconst (pc' := 1) (x := (0 : Int32)) rfl rfl ?_
  refine jw_istore_n (pc' := 2) (ls' := [some (vR 41 r0), some (vR 48 r1), some (vI (0 : Int32)), none]) rfl (by decide) rfl ?_
  obtain ⟨n, w⟩ := w
  exact l_X8_check_2_2 n _ _ _ _ w
def T_X8_check_2 (D : JD) (d : Nat) (Q : JO → JH → Prop) (r0 : Nat) (r1 : Nat) (h : JH) : Prop := W_X8_check_2_0 D d Q r0 r1 h
theorem t_X8_check_2 {D : JD} {d : Nat} {Q : JO → JH → Prop} {r0 : Nat} {r1 : Nat} {h : JH} (w : T_X8_check_2 D d Q r0 r1 h) : cX8_check_2 D (d + 1) r0 r1 h Q := by
  unfold T_X8_check_2 at w
  unfold cX8_check_2
  exact w_X8_check_2_0 w
def W_X8_isGather_57 (D : JD) (d : Nat) (Q : JO → JH → Prop) (s0 : Int32) (h : JH) : Prop :=
  jbo s0 ∧ (Q (.inl (some (vI s0))) h)
theorem w_X8_isGather_57 {D : JD} {d : Nat} {Q : JO → JH → Prop} {s0 : Int32} {h : JH} (w : W_X8_isGather_57 D d Q s0 h) : JW D (d + 1) mX8_isGather 57 [none] [vI s0] h Q := by
  unfold W_X8_isGather_57 at w
  obtain ⟨g_1, w⟩ := w
  exact jw_ireturn rfl rfl (g_1.nr) w
def W_X8_isGather_52 (D : JD) (d : Nat) (Q : JO → JH → Prop) (h : JH) : Prop :=
  W_X8_isGather_57 D d Q (1 : Int32) h
theorem w_X8_isGather_52 {D : JD} {d : Nat} {Q : JO → JH → Prop} {h : JH} (w : W_X8_isGather_52 D d Q h) : JW D (d + 1) mX8_isGather 52 [none] [] h Q := by
  unfold W_X8_isGather_52 at w
  refine jw_iconst (pc' := 53) (x := (1 : Int32)) rfl rfl ?_
  refine jw_goto (pc' := 57) rfl rfl ?_
  exact w_X8_isGather_57 w
def W_X8_isGather_0 (D : JD) (d : Nat) (Q : JO → JH → Prop) (r0 : Nat) (h : JH) : Prop :=
  r0 ≠ 0 ∧ ((jfr h 307 r0) ≠ 0 ∧ (cJ5_equals D d (jfr h 307 r0) (jcs D 305) h (pI D h (fun v_5 h_3 => (¬ v_5 = 0 → W_X8_isGather_52 D d Q h_3) ∧ (v_5 = 0 → (jfr h_3 307 r0) ≠ 0 ∧ (cJ5_equals D d (jfr h_3 307 r0) (jcs D 306) h_3 (pI D h_3 (fun v_10 h_8 => (¬ v_10 = 0 → W_X8_isGather_52 D d Q h_8) ∧ (v_10 = 0 → (jfr h_8 307 r0) ≠ 0 ∧ (cJ5_equals D d (jfr h_8 307 r0) (jcs D 307) h_8 (pI D h_8 (fun v_15 h_13 => (¬ v_15 = 0 → W_X8_isGather_52 D d Q h_13) ∧ (v_15 = 0 → (jfr h_13 307 r0) ≠ 0 ∧ (cJ5_equals D d (jfr h_13 307 r0) (jcs D 308) h_13 (pI D h_13 (fun v_20 h_18 => (v_20 = 0 → W_X8_isGather_57 D d Q (0 : Int32) h_18) ∧ (¬ v_20 = 0 → W_X8_isGather_52 D d Q h_18)) (jth Q))))) (jth Q))))) (jth Q))))) (jth Q))))
theorem w_X8_isGather_0 {D : JD} {d : Nat} {Q : JO → JH → Prop} {r0 : Nat} {h : JH} (w : W_X8_isGather_0 D d Q r0 h) : JW D (d + 1) mX8_isGather 0 [some (vR 48 r0)] [] h Q := by
  unfold W_X8_isGather_0 at w
  refine jw_aload_n (pc' := 1) rfl rfl ?_
  obtain ⟨g_1, w⟩ := w
  refine jw_getR (pc' := 4) (F := 307) (t' := 64) rfl rfl rfl rfl rfl g_1 ?_
  refine jw_ldcwS (pc' := 7) rfl rfl rfl rfl ?_
  obtain ⟨g_2, w⟩ := w
  refine jw_cI (st := []) (sa := [vR 64 (jfr h 307 r0), vR 51 (jcs D 305)]) okJ5_equals rfl rfl rfl rfl rfl rfl (jstp_virtual (sa := [vR 51 (jcs D 305)]) (st := []) (k := 0) rfl rfl sJ5_equals okJ5_equals g_2 (one64.k g_2) rfl rfl) w (fun v_5 h_3 _ _ w => ?_)
  refine jw_if_ne (tgt := 52) (pc' := 13) rfl rfl (fun c_6 => ?_) (fun c_6 => ?_)
  · replace w := w.1 c_6
    refine jw_gen (ls' := [none]) (st' := []) (trivial) (trivial) ?_
    exact w_X8_isGather_52 w
  · replace w := w.2 c_6
    refine jw_aload_n (pc' := 14) rfl rfl ?_
    refine jw_getR (pc' := 17) (F := 307) (t' := 64) rfl rfl rfl rfl rfl g_1 ?_
    refine jw_ldcwS (pc' := 20) rfl rfl rfl rfl ?_
    obtain ⟨g_7, w⟩ := w
    refine jw_cI (st := []) (sa := [vR 64 (jfr h_3 307 r0), vR 51 (jcs D 306)]) okJ5_equals rfl rfl rfl rfl rfl rfl (jstp_virtual (sa := [vR 51 (jcs D 306)]) (st := []) (k := 0) rfl rfl sJ5_equals okJ5_equals g_7 (one64.k g_7) rfl rfl) w (fun v_10 h_8 _ _ w => ?_)
    refine jw_if_ne (tgt := 52) (pc' := 26) rfl rfl (fun c_11 => ?_) (fun c_11 => ?_)
    · replace w := w.1 c_11
      refine jw_gen (ls' := [none]) (st' := []) (trivial) (trivial) ?_
      exact w_X8_isGather_52 w
    · replace w := w.2 c_11
      refine jw_aload_n (pc' := 27) rfl rfl ?_
      refine jw_getR (pc' := 30) (F := 307) (t' := 64) rfl rfl rfl rfl rfl g_1 ?_
      refine jw_ldcwS (pc' := 33) rfl rfl rfl rfl ?_
      obtain ⟨g_12, w⟩ := w
      refine jw_cI (st := []) (sa := [vR 64 (jfr h_8 307 r0), vR 51 (jcs D 307)]) okJ5_equals rfl rfl rfl rfl rfl rfl (jstp_virtual (sa := [vR 51 (jcs D 307)]) (st := []) (k := 0) rfl rfl sJ5_equals okJ5_equals g_12 (one64.k g_12) rfl rfl) w (fun v_15 h_13 _ _ w => ?_)
      refine jw_if_ne (tgt := 52) (pc' := 39) rfl rfl (fun c_16 => ?_) (fun c_16 => ?_)
      · replace w := w.1 c_16
        refine jw_gen (ls' := [none]) (st' := []) (trivial) (trivial) ?_
        exact w_X8_isGather_52 w
      · replace w := w.2 c_16
        refine jw_aload_n (pc' := 40) rfl rfl ?_
        refine jw_getR (pc' := 43) (F := 307) (t' := 64) rfl rfl rfl rfl rfl g_1 ?_
        refine jw_ldcwS (pc' := 46) rfl rfl rfl rfl ?_
        obtain ⟨g_17, w⟩ := w
        refine jw_cI (st := []) (sa := [vR 64 (jfr h_13 307 r0), vR 51 (jcs D 308)]) okJ5_equals rfl rfl rfl rfl rfl rfl (jstp_virtual (sa := [vR 51 (jcs D 308)]) (st := []) (k := 0) rfl rfl sJ5_equals okJ5_equals g_17 (one64.k g_17) rfl rfl) w (fun v_20 h_18 _ _ w => ?_)
        refine jw_if_eq (tgt := 56) (pc' := 52) rfl rfl (fun c_21 => ?_) (fun c_21 => ?_)
        · replace w := w.1 c_21
          refine jw_iconst (pc' := 57) (x := (0 : Int32)) rfl rfl ?_
          refine jw_gen (ls' := [none]) (st' := [vI (0 : Int32)]) (trivial) (And.intro (Or.inl rfl) (trivial)) ?_
          exact w_X8_isGather_57 w
        · replace w := w.2 c_21
          refine jw_gen (ls' := [none]) (st' := []) (trivial) (trivial) ?_
          exact w_X8_isGather_52 w
def T_X8_isGather (D : JD) (d : Nat) (Q : JO → JH → Prop) (r0 : Nat) (h : JH) : Prop := W_X8_isGather_0 D d Q r0 h
theorem t_X8_isGather {D : JD} {d : Nat} {Q : JO → JH → Prop} {r0 : Nat} {h : JH} (w : T_X8_isGather D d Q r0 h) : cX8_isGather D (d + 1) r0 h Q := by
  unfold T_X8_isGather at w
  unfold cX8_isGather
  exact w_X8_isGather_0 w
def W_X8_typeOf_101 (D : JD) (d : Nat) (Q : JO → JH → Prop) (r0 : Nat) (r1 : Nat) (q0 : Nat) (s1 : Int32) (h : JH) : Prop :=
  q0 ≠ 0 ∧ (cX8_must D d q0 s1 (jcs D 309) h (pV D h (fun h_2 => r0 ≠ 0 ∧ (r1 ≠ 0 ∧ ((jfr h_2 197 r0) ≠ 0 ∧ jin (jfi h_2 306 r1) (jln h_2 (jfr h_2 197 r0)) ∧ (Q (.inl (some (vI (jai h_2 (jfr h_2 197 r0) (ixn (jfi h_2 306 r1)))))) h_2)))) (jth Q)))
theorem w_X8_typeOf_101 {D : JD} {d : Nat} {Q : JO → JH → Prop} {r0 : Nat} {r1 : Nat} {q0 : Nat} {s1 : Int32} {h : JH} (w : W_X8_typeOf_101 D d Q r0 r1 q0 s1 h) : JW D (d + 1) mX8_typeOf 101 [some (vR 41 r0), some (vR 48 r1), none, none] [vI s1, vR 41 q0] h Q := by
  unfold W_X8_typeOf_101 at w
  refine jw_ldcwS (pc' := 104) rfl rfl rfl rfl ?_
  obtain ⟨g_1, w⟩ := w
  refine jw_cV (st := []) (sa := [vR 41 q0, vI s1, vR 51 (jcs D 309)]) okX8_must rfl rfl rfl rfl rfl rfl (jstp_virtual (sa := [vI s1, vR 51 (jcs D 309)]) (st := []) (k := 0) rfl rfl sX8_must okX8_must g_1 (one41.k g_1) rfl rfl) w (fun h_2 _ _ w => ?_)
  refine jw_aload_n (pc' := 108) rfl rfl ?_
  obtain ⟨g_5, w⟩ := w
  refine jw_getR (pc' := 111) (F := 197) (t' := 68) rfl rfl rfl rfl rfl g_5 ?_
  refine jw_aload_n (pc' := 112) rfl rfl ?_
  obtain ⟨g_6, w⟩ := w
  refine jw_getI (pc' := 115) (F := 306) rfl rfl rfl rfl g_6 ?_
  obtain ⟨g_7, w⟩ := w
  obtain ⟨g_8, w⟩ := w
  refine jw_iald (pc' := 116) rfl rfl rfl rfl g_7 g_8.ix g_8.2 ?_
  exact jw_ireturn rfl rfl (rfl) w
def W_X8_typeOf_139 (D : JD) (d : Nat) (Q : JO → JH → Prop) (K139 : Nat → Nat → Int32 → Int32 → JH → Prop) (r0 : Nat) (r1 : Nat) (x2 : Int32) (x3 : Int32) (h : JH) : Prop :=
  r1 ≠ 0 ∧ (((jfi h 311 r1) ≤ x3 → Q (.inl (some (vI (16 : Int32)))) h) ∧ (¬ (jfi h 311 r1) ≤ x3 → (jfr h 310 r1) ≠ 0 ∧ jin x3 (jln h (jfr h 310 r1)) ∧ ((jar h (jfr h 310 r1) (ixn x3)) ≠ 0 ∧ (r0 ≠ 0 ∧ (cX8_same D d r0 x2 (jfi h 312 (jar h (jfr h 310 r1) (ixn x3))) h (pI D h (fun v_9 h_7 => K139 r0 r1 v_9 (x3 + (1 : Int32)) h_7) (jth Q)))))))
theorem w_X8_typeOf_139 {D : JD} {d : Nat} {Q : JO → JH → Prop} {K139 : Nat → Nat → Int32 → Int32 → JH → Prop} {r0 : Nat} {r1 : Nat} {x2 : Int32} {x3 : Int32} {h : JH} (hK139 : ∀ (r0 : Nat) (r1 : Nat) (x2 : Int32) (x3 : Int32) (h : JH), K139 r0 r1 x2 x3 h → JW D (d + 1) mX8_typeOf 139 [some (vR 41 r0), some (vR 48 r1), some (vI x2), some (vI x3)] [] h Q) (w : W_X8_typeOf_139 D d Q K139 r0 r1 x2 x3 h) : JW D (d + 1) mX8_typeOf 139 [some (vR 41 r0), some (vR 48 r1), some (vI x2), some (vI x3)] [] h Q := by
  unfold W_X8_typeOf_139 at w
  refine jw_iload_n (pc' := 140) rfl rfl ?_
  refine jw_aload_n (pc' := 141) rfl rfl ?_
  obtain ⟨g_1, w⟩ := w
  refine jw_getI (pc' := 144) (F := 311) rfl rfl rfl rfl g_1 ?_
  refine jw_icmp_ge (tgt := 168) (pc' := 147) rfl rfl (fun c_2 => ?_) (fun c_2 => ?_)
  · replace w := w.1 c_2
    refine jw_bipush (pc' := 170) (x := (16 : Int32)) rfl rfl ?_
    exact jw_ireturn rfl rfl (rfl) w
  · replace w := w.2 c_2
    refine jw_aload_n (pc' := 148) rfl rfl ?_
    refine jw_iload_n (pc' := 149) rfl rfl ?_
    refine jw_aload_n (pc' := 150) rfl rfl ?_
    refine jw_getR (pc' := 153) (F := 310) (t' := 215) rfl rfl rfl rfl rfl g_1 ?_
    refine jw_iload_n (pc' := 154) rfl rfl ?_
    obtain ⟨g_3, w⟩ := w
    obtain ⟨g_4, w⟩ := w
    refine jw_aald (pc' := 155) (t' := 48) rfl rfl rfl rfl g_3 g_4.ix g_4.2 ?_
    obtain ⟨g_5, w⟩ := w
    refine jw_getI (pc' := 158) (F := 312) rfl rfl rfl rfl g_5 ?_
    obtain ⟨g_6, w⟩ := w
    refine jw_cI (st := []) (sa := [vR 41 r0, vI x2, vI (jfi h 312 (jar h (jfr h 310 r1) (ixn x3)))]) okX8_same rfl rfl rfl rfl rfl rfl (jstp_virtual (sa := [vI x2, vI (jfi h 312 (jar h (jfr h 310 r1) (ixn x3)))]) (st := []) (k := 0) rfl rfl sX8_same okX8_same g_6 (one41.k g_6) rfl rfl) w (fun v_9 h_7 _ _ w => ?_)
    refine jw_istore_n (pc' := 162) (ls' := [some (vR 41 r0), some (vR 48 r1), some (vI v_9), some (vI x3)]) rfl (by decide) rfl ?_
    refine jw_iinc (pc' := 165) (y := x3 + (1 : Int32)) (ls' := [some (vR 41 r0), some (vR 48 r1), some (vI v_9), some (vI (x3 + (1 : Int32)))]) rfl (by decide) rfl rfl rfl ?_
    refine jw_goto (pc' := 139) rfl rfl ?_
    exact hK139 _ _ _ _ _ w
def L_X8_typeOf_139 (D : JD) (d : Nat) (Q : JO → JH → Prop) : Nat → Nat → Nat → Int32 → Int32 → JH → Prop
  | 0 => fun _ _ _ _ _ => False
  | n + 1 => fun r0 r1 x2 x3 h => W_X8_typeOf_139 D d Q (L_X8_typeOf_139 D d Q n) r0 r1 x2 x3 h
theorem l_X8_typeOf_139 {D : JD} {d : Nat} {Q : JO → JH → Prop} : ∀ (n : Nat) (r0 : Nat) (r1 : Nat) (x2 : Int32) (x3 : Int32) (h : JH), L_X8_typeOf_139 D d Q n r0 r1 x2 x3 h → JW D (d + 1) mX8_typeOf 139 [some (vR 41 r0), some (vR 48 r1), some (vI x2), some (vI x3)] [] h Q := by
  intro n
  induction n with
  | zero => intro _ _ _ _ _ w; exact w.elim
  | succ n ih => intro _ _ _ _ h w; exact w_X8_typeOf_139 ih w
def W_X8_typeOf_233 (D : JD) (d : Nat) (Q : JO → JH → Prop) (s0 : Int32) (h : JH) : Prop :=
  Q (.inl (some (vI s0))) h
theorem w_X8_typeOf_233 {D : JD} {d : Nat} {Q : JO → JH → Prop} {s0 : Int32} {h : JH} (w : W_X8_typeOf_233 D d Q s0 h) : JW D (d + 1) mX8_typeOf 233 [none, none, none, none] [vI s0] h Q := by
  unfold W_X8_typeOf_233 at w
  exact jw_ireturn rfl rfl (rfl) w
def W_X8_typeOf_0 (D : JD) (d : Nat) (Q : JO → JH → Prop) (r0 : Nat) (r1 : Nat) (h : JH) : Prop :=
  r1 ≠ 0 ∧ (((jfi h 305 r1) = (0 : Int32) → (jfr h 309 r1) ≠ 0 ∧ (Q (.inl (some (vI (jfi h 266 (jfr h 309 r1))))) h)) ∧ ((jfi h 305 r1) = (1 : Int32) → r0 ≠ 0 ∧ (((jfi h 198 r0) ≤ (jfi h 306 r1) → W_X8_typeOf_101 D d Q r0 r1 r0 (0 : Int32) h) ∧ (¬ (jfi h 198 r0) ≤ (jfi h 306 r1) → W_X8_typeOf_101 D d Q r0 r1 r0 (1 : Int32) h))) ∧ ((jfi h 305 r1) = (2 : Int32) → r0 ≠ 0 ∧ (cX8_column D d r0 r1 h (pI D h (fun v_11 h_9 => Q (.inl (some (vI v_11))) h_9) (jth Q)))) ∧ ((jfi h 305 r1) = (3 : Int32) → r0 ≠ 0 ∧ (cX8_function D d r0 r1 h (pI D h (fun v_16 h_14 => Q (.inl (some (vI v_16))) h_14) (jth Q)))) ∧ ((jfi h 305 r1) = (4 : Int32) → r0 ≠ 0 ∧ (cX8_chosen D d r0 r1 h (pI D h (fun v_21 h_19 => Q (.inl (some (vI v_21))) h_19) (jth Q)))) ∧ ((jfi h 305 r1) = (5 : Int32) → ∃ n, L_X8_typeOf_139 D d Q n r0 r1 (0 : Int32) (0 : Int32) h) ∧ ((jfi h 305 r1) = (6 : Int32) → r0 ≠ 0 ∧ (cX8_both_2 D d r0 r1 (25 : Int32) (16 : Int32) h (pI D h (fun v_27 h_25 => Q (.inl (some (vI v_27))) h_25) (jth Q)))) ∧ ((jfi h 305 r1) = (7 : Int32) → ∃ n, L_X8_typeOf_139 D d Q n r0 r1 (0 : Int32) (0 : Int32) h) ∧ ((jfi h 305 r1) = (8 : Int32) → Q (.inl (some (vI (16 : Int32)))) h) ∧ ((jfi h 305 r1) = (9 : Int32) → ∃ n, L_X8_typeOf_139 D d Q n r0 r1 (0 : Int32) (0 : Int32) h) ∧ ((jfi h 305 r1) = (10 : Int32) → r0 ≠ 0 ∧ (cX8_both_2 D d r0 r1 (16 : Int32) (16 : Int32) h (pI D h (fun v_35 h_33 => Q (.inl (some (vI v_35))) h_33) (jth Q)))) ∧ ((jfi h 305 r1) = (11 : Int32) → r0 ≠ 0 ∧ (cX8_both_2 D d r0 r1 (16 : Int32) (16 : Int32) h (pI D h (fun v_40 h_38 => Q (.inl (some (vI v_40))) h_38) (jth Q)))) ∧ ((jfi h 305 r1) = (12 : Int32) → r0 ≠ 0 ∧ (cX8_both_2 D d r0 r1 (16 : Int32) (16 : Int32) h (pI D h (fun v_45 h_43 => Q (.inl (some (vI v_45))) h_43) (jth Q)))) ∧ ((jfi h 305 r1) = (13 : Int32) → r0 ≠ 0 ∧ (cX8_both_2 D d r0 r1 (20 : Int32) (20 : Int32) h (pI D h (fun v_50 h_48 => Q (.inl (some (vI v_50))) h_48) (jth Q)))) ∧ (¬ (jfi h 305 r1) = (0 : Int32) → ¬ (jfi h 305 r1) = (1 : Int32) → ¬ (jfi h 305 r1) = (2 : Int32) → ¬ (jfi h 305 r1) = (3 : Int32) → ¬ (jfi h 305 r1) = (4 : Int32) → ¬ (jfi h 305 r1) = (5 : Int32) → ¬ (jfi h 305 r1) = (6 : Int32) → ¬ (jfi h 305 r1) = (7 : Int32) → ¬ (jfi h 305 r1) = (8 : Int32) → ¬ (jfi h 305 r1) = (9 : Int32) → ¬ (jfi h 305 r1) = (10 : Int32) → ¬ (jfi h 305 r1) = (11 : Int32) → ¬ (jfi h 305 r1) = (12 : Int32) → ¬ (jfi h 305 r1) = (13 : Int32) → (¬ (jfi h 306 r1) = (5 : Int32) → r0 ≠ 0 ∧ (cX8_both_2 D d r0 r1 (20 : Int32) (20 : Int32) h (pI D h (fun v_55 h_53 => W_X8_typeOf_233 D d Q v_55 h_53) (jth Q)))) ∧ ((jfi h 306 r1) = (5 : Int32) → r0 ≠ 0 ∧ (cX8_both_2 D d r0 r1 (25 : Int32) (25 : Int32) h (pI D h (fun v_59 h_57 => W_X8_typeOf_233 D d Q v_59 h_57) (jth Q))))))
theorem w_X8_typeOf_0 {D : JD} {d : Nat} {Q : JO → JH → Prop} {r0 : Nat} {r1 : Nat} {h : JH} (w : W_X8_typeOf_0 D d Q r0 r1 h) : JW D (d + 1) mX8_typeOf 0 [some (vR 41 r0), some (vR 48 r1), none, none] [] h Q := by
  unfold W_X8_typeOf_0 at w
  refine jw_aload_n (pc' := 1) rfl rfl ?_
  obtain ⟨g_1, w⟩ := w
  refine jw_getI (pc' := 4) (F := 305) rfl rfl rfl rfl g_1 ?_
  refine jw_tsw (cs := [((0 : Int32), 76), ((1 : Int32), 84), ((2 : Int32), 117), ((3 : Int32), 123), ((4 : Int32), 129), ((5 : Int32), 135), ((6 : Int32), 171), ((7 : Int32), 135), ((8 : Int32), 181), ((9 : Int32), 135), ((10 : Int32), 184), ((11 : Int32), 184), ((12 : Int32), 184), ((13 : Int32), 194)]) (dt := 204) rfl (by decide +kernel) ?_
  by_cases c_2 : (jfi h 305 r1) = (0 : Int32)
  · rw [jsw_hit c_2]
    replace w := w.1 c_2
    refine jw_aload_n (pc' := 77) rfl rfl ?_
    refine jw_getR (pc' := 80) (F := 309) (t' := 105) rfl rfl rfl rfl rfl g_1 ?_
    obtain ⟨g_3, w⟩ := w
    refine jw_getI (pc' := 83) (F := 266) rfl rfl rfl rfl g_3 ?_
    exact jw_ireturn rfl rfl (rfl) w
  · rw [jsw_miss c_2]
    replace w := w.2
    by_cases c_4 : (jfi h 305 r1) = (1 : Int32)
    · rw [jsw_hit c_4]
      replace w := w.1 c_4
      refine jw_aload_n (pc' := 85) rfl rfl ?_
      refine jw_aload_n (pc' := 86) rfl rfl ?_
      refine jw_getI (pc' := 89) (F := 306) rfl rfl rfl rfl g_1 ?_
      refine jw_aload_n (pc' := 90) rfl rfl ?_
      obtain ⟨g_5, w⟩ := w
      refine jw_getI (pc' := 93) (F := 198) rfl rfl rfl rfl g_5 ?_
      refine jw_icmp_ge (tgt := 100) (pc' := 96) rfl rfl (fun c_6 => ?_) (fun c_6 => ?_)
      · replace w := w.1 c_6
        refine jw_iconst (pc' := 101) (x := (0 : Int32)) rfl rfl ?_
        exact w_X8_typeOf_101 w
      · replace w := w.2 c_6
        refine jw_iconst (pc' := 97) (x := (1 : Int32)) rfl rfl ?_
        refine jw_goto (pc' := 101) rfl rfl ?_
        exact w_X8_typeOf_101 w
    · rw [jsw_miss c_4]
      replace w := w.2
      by_cases c_7 : (jfi h 305 r1) = (2 : Int32)
      · rw [jsw_hit c_7]
        replace w := w.1 c_7
        refine jw_aload_n (pc' := 118) rfl rfl ?_
        refine jw_aload_n (pc' := 119) rfl rfl ?_
        obtain ⟨g_8, w⟩ := w
        refine jw_cI (st := []) (sa := [vR 41 r0, vR 48 r1]) okX8_column rfl rfl rfl rfl rfl rfl (jstp_virtual (sa := [vR 48 r1]) (st := []) (k := 0) rfl rfl sX8_column okX8_column g_8 (one41.k g_8) rfl rfl) w (fun v_11 h_9 _ _ w => ?_)
        exact jw_ireturn rfl rfl (rfl) w
      · rw [jsw_miss c_7]
        replace w := w.2
        by_cases c_12 : (jfi h 305 r1) = (3 : Int32)
        · rw [jsw_hit c_12]
          replace w := w.1 c_12
          refine jw_aload_n (pc' := 124) rfl rfl ?_
          refine jw_aload_n (pc' := 125) rfl rfl ?_
          obtain ⟨g_13, w⟩ := w
          refine jw_cI (st := []) (sa := [vR 41 r0, vR 48 r1]) okX8_function rfl rfl rfl rfl rfl rfl (jstp_virtual (sa := [vR 48 r1]) (st := []) (k := 0) rfl rfl sX8_function okX8_function g_13 (one41.k g_13) rfl rfl) w (fun v_16 h_14 _ _ w => ?_)
          exact jw_ireturn rfl rfl (rfl) w
        · rw [jsw_miss c_12]
          replace w := w.2
          by_cases c_17 : (jfi h 305 r1) = (4 : Int32)
          · rw [jsw_hit c_17]
            replace w := w.1 c_17
            refine jw_aload_n (pc' := 130) rfl rfl ?_
            refine jw_aload_n (pc' := 131) rfl rfl ?_
            obtain ⟨g_18, w⟩ := w
            refine jw_cI (st := []) (sa := [vR 41 r0, vR 48 r1]) okX8_chosen rfl rfl rfl rfl rfl rfl (jstp_virtual (sa := [vR 48 r1]) (st := []) (k := 0) rfl rfl sX8_chosen okX8_chosen g_18 (one41.k g_18) rfl rfl) w (fun v_21 h_19 _ _ w => ?_)
            exact jw_ireturn rfl rfl (rfl) w
          · rw [jsw_miss c_17]
            replace w := w.2
            by_cases c_22 : (jfi h 305 r1) = (5 : Int32)
            · rw [jsw_hit c_22]
              replace w := w.1 c_22
              refine jw_iconst (pc' := 136) (x := (0 : Int32)) rfl rfl ?_
              refine jw_istore_n (pc' := 137) (ls' := [some (vR 41 r0), some (vR 48 r1), some (vI (0 : Int32)), none]) rfl (by decide) rfl ?_
              refine jw_iconst (pc' := 138) (x := (0 : Int32)) rfl rfl ?_
              refine jw_istore_n (pc' := 139) (ls' := [some (vR 41 r0), some (vR 48 r1), some (vI (0 : Int32)), some (vI (0 : Int32))]) rfl (by decide) rfl ?_
              obtain ⟨n, w⟩ := w
              exact l_X8_typeOf_139 n _ _ _ _ _ w
            · rw [jsw_miss c_22]
              replace w := w.2
              by_cases c_23 : (jfi h 305 r1) = (6 : Int32)
              · rw [jsw_hit c_23]
                replace w := w.1 c_23
                refine jw_aload_n (pc' := 172) rfl rfl ?_
                refine jw_aload_n (pc' := 173) rfl rfl ?_
                refine jw_bipush (pc' := 175) (x := (25 : Int32)) rfl rfl ?_
                refine jw_bipush (pc' := 177) (x := (16 : Int32)) rfl rfl ?_
                obtain ⟨g_24, w⟩ := w
                refine jw_cI (st := []) (sa := [vR 41 r0, vR 48 r1, vI (25 : Int32), vI (16 : Int32)]) okX8_both_2 rfl rfl rfl rfl rfl rfl (jstp_virtual (sa := [vR 48 r1, vI (25 : Int32), vI (16 : Int32)]) (st := []) (k := 0) rfl rfl sX8_both_2 okX8_both_2 g_24 (one41.k g_24) rfl rfl) w (fun v_27 h_25 _ _ w => ?_)
                exact jw_ireturn rfl rfl (rfl) w
              · rw [jsw_miss c_23]
                replace w := w.2
                by_cases c_28 : (jfi h 305 r1) = (7 : Int32)
                · rw [jsw_hit c_28]
                  replace w := w.1 c_28
                  refine jw_iconst (pc' := 136) (x := (0 : Int32)) rfl rfl ?_
                  refine jw_istore_n (pc' := 137) (ls' := [some (vR 41 r0), some (vR 48 r1), some (vI (0 : Int32)), none]) rfl (by decide) rfl ?_
                  refine jw_iconst (pc' := 138) (x := (0 : Int32)) rfl rfl ?_
                  refine jw_istore_n (pc' := 139) (ls' := [some (vR 41 r0), some (vR 48 r1), some (vI (0 : Int32)), some (vI (0 : Int32))]) rfl (by decide) rfl ?_
                  obtain ⟨n, w⟩ := w
                  exact l_X8_typeOf_139 n _ _ _ _ _ w
                · rw [jsw_miss c_28]
                  replace w := w.2
                  by_cases c_29 : (jfi h 305 r1) = (8 : Int32)
                  · rw [jsw_hit c_29]
                    replace w := w.1 c_29
                    refine jw_bipush (pc' := 183) (x := (16 : Int32)) rfl rfl ?_
                    exact jw_ireturn rfl rfl (rfl) w
                  · rw [jsw_miss c_29]
                    replace w := w.2
                    by_cases c_30 : (jfi h 305 r1) = (9 : Int32)
                    · rw [jsw_hit c_30]
                      replace w := w.1 c_30
                      refine jw_iconst (pc' := 136) (x := (0 : Int32)) rfl rfl ?_
                      refine jw_istore_n (pc' := 137) (ls' := [some (vR 41 r0), some (vR 48 r1), some (vI (0 : Int32)), none]) rfl (by decide) rfl ?_
                      refine jw_iconst (pc' := 138) (x := (0 : Int32)) rfl rfl ?_
                      refine jw_istore_n (pc' := 139) (ls' := [some (vR 41 r0), some (vR 48 r1), some (vI (0 : Int32)), some (vI (0 : Int32))]) rfl (by decide) rfl ?_
                      obtain ⟨n, w⟩ := w
                      exact l_X8_typeOf_139 n _ _ _ _ _ w
                    · rw [jsw_miss c_30]
                      replace w := w.2
                      by_cases c_31 : (jfi h 305 r1) = (10 : Int32)
                      · rw [jsw_hit c_31]
                        replace w := w.1 c_31
                        refine jw_aload_n (pc' := 185) rfl rfl ?_
                        refine jw_aload_n (pc' := 186) rfl rfl ?_
                        refine jw_bipush (pc' := 188) (x := (16 : Int32)) rfl rfl ?_
                        refine jw_bipush (pc' := 190) (x := (16 : Int32)) rfl rfl ?_
                        obtain ⟨g_32, w⟩ := w
                        refine jw_cI (st := []) (sa := [vR 41 r0, vR 48 r1, vI (16 : Int32), vI (16 : Int32)]) okX8_both_2 rfl rfl rfl rfl rfl rfl (jstp_virtual (sa := [vR 48 r1, vI (16 : Int32), vI (16 : Int32)]) (st := []) (k := 0) rfl rfl sX8_both_2 okX8_both_2 g_32 (one41.k g_32) rfl rfl) w (fun v_35 h_33 _ _ w => ?_)
                        exact jw_ireturn rfl rfl (rfl) w
                      · rw [jsw_miss c_31]
                        replace w := w.2
                        by_cases c_36 : (jfi h 305 r1) = (11 : Int32)
                        · rw [jsw_hit c_36]
                          replace w := w.1 c_36
                          refine jw_aload_n (pc' := 185) rfl rfl ?_
                          refine jw_aload_n (pc' := 186) rfl rfl ?_
                          refine jw_bipush (pc' := 188) (x := (16 : Int32)) rfl rfl ?_
                          refine jw_bipush (pc' := 190) (x := (16 : Int32)) rfl rfl ?_
                          obtain ⟨g_37, w⟩ := w
                          refine jw_cI (st := []) (sa := [vR 41 r0, vR 48 r1, vI (16 : Int32), vI (16 : Int32)]) okX8_both_2 rfl rfl rfl rfl rfl rfl (jstp_virtual (sa := [vR 48 r1, vI (16 : Int32), vI (16 : Int32)]) (st := []) (k := 0) rfl rfl sX8_both_2 okX8_both_2 g_37 (one41.k g_37) rfl rfl) w (fun v_40 h_38 _ _ w => ?_)
                          exact jw_ireturn rfl rfl (rfl) w
                        · rw [jsw_miss c_36]
                          replace w := w.2
                          by_cases c_41 : (jfi h 305 r1) = (12 : Int32)
                          · rw [jsw_hit c_41]
                            replace w := w.1 c_41
                            refine jw_aload_n (pc' := 185) rfl rfl ?_
                            refine jw_aload_n (pc' := 186) rfl rfl ?_
                            refine jw_bipush (pc' := 188) (x := (16 : Int32)) rfl rfl ?_
                            refine jw_bipush (pc' := 190) (x := (16 : Int32)) rfl rfl ?_
                            obtain ⟨g_42, w⟩ := w
                            refine jw_cI (st := []) (sa := [vR 41 r0, vR 48 r1, vI (16 : Int32), vI (16 : Int32)]) okX8_both_2 rfl rfl rfl rfl rfl rfl (jstp_virtual (sa := [vR 48 r1, vI (16 : Int32), vI (16 : Int32)]) (st := []) (k := 0) rfl rfl sX8_both_2 okX8_both_2 g_42 (one41.k g_42) rfl rfl) w (fun v_45 h_43 _ _ w => ?_)
                            exact jw_ireturn rfl rfl (rfl) w
                          · rw [jsw_miss c_41]
                            replace w := w.2
                            by_cases c_46 : (jfi h 305 r1) = (13 : Int32)
                            · rw [jsw_hit c_46]
                              replace w := w.1 c_46
                              refine jw_aload_n (pc' := 195) rfl rfl ?_
                              refine jw_aload_n (pc' := 196) rfl rfl ?_
                              refine jw_bipush (pc' := 198) (x := (20 : Int32)) rfl rfl ?_
                              refine jw_bipush (pc' := 200) (x := (20 : Int32)) rfl rfl ?_
                              obtain ⟨g_47, w⟩ := w
                              refine jw_cI (st := []) (sa := [vR 41 r0, vR 48 r1, vI (20 : Int32), vI (20 : Int32)]) okX8_both_2 rfl rfl rfl rfl rfl rfl (jstp_virtual (sa := [vR 48 r1, vI (20 : Int32), vI (20 : Int32)]) (st := []) (k := 0) rfl rfl sX8_both_2 okX8_both_2 g_47 (one41.k g_47) rfl rfl) w (fun v_50 h_48 _ _ w => ?_)
                              exact jw_ireturn rfl rfl (rfl) w
                            · rw [jsw_miss c_46]
                              replace w := w.2
                              rw [jsw_nil]
                              replace w := w c_2 c_4 c_7 c_12 c_17 c_22 c_23 c_28 c_29 c_30 c_31 c_36 c_41 c_46
                              refine jw_aload_n (pc' := 205) rfl rfl ?_
                              refine jw_getI (pc' := 208) (F := 306) rfl rfl rfl rfl g_1 ?_
                              refine jw_iconst (pc' := 209) (x := (5 : Int32)) rfl rfl ?_
                              refine jw_icmp_ne (tgt := 224) (pc' := 212) rfl rfl (fun c_51 => ?_) (fun c_51 => ?_)
                              · replace w := w.1 c_51
                                refine jw_aload_n (pc' := 225) rfl rfl ?_
                                refine jw_aload_n (pc' := 226) rfl rfl ?_
                                refine jw_bipush (pc' := 228) (x := (20 : Int32)) rfl rfl ?_
                                refine jw_bipush (pc' := 230) (x := (20 : Int32)) rfl rfl ?_
                                obtain ⟨g_52, w⟩ := w
                                refine jw_cI (st := []) (sa := [vR 41 r0, vR 48 r1, vI (20 : Int32), vI (20 : Int32)]) okX8_both_2 rfl rfl rfl rfl rfl rfl (jstp_virtual (sa := [vR 48 r1, vI (20 : Int32), vI (20 : Int32)]) (st := []) (k := 0) rfl rfl sX8_both_2 okX8_both_2 g_52 (one41.k g_52) rfl rfl) w (fun v_55 h_53 _ _ w => ?_)
                                refine jw_gen (ls' := [none, none, none, none]) (st' := [vI v_55]) (trivial) (And.intro (Or.inl rfl) (trivial)) ?_
                                exact w_X8_typeOf_233 w
                              · replace w := w.2 c_51
                                refine jw_aload_n (pc' := 213) rfl rfl ?_
                                refine jw_aload_n (pc' := 214) rfl rfl ?_
                                refine jw_bipush (pc' := 216) (x := (25 : Int32)) rfl rfl ?_
                                refine jw_bipush (pc' := 218) (x := (25 : Int32)) rfl rfl ?_
                                obtain ⟨g_56, w⟩ := w
                                refine jw_cI (st := []) (sa := [vR 41 r0, vR 48 r1, vI (25 : Int32), vI (25 : Int32)]) okX8_both_2 rfl rfl rfl rfl rfl rfl (jstp_virtual (sa := [vR 48 r1, vI (25 : Int32), vI (25 : Int32)]) (st := []) (k := 0) rfl rfl sX8_both_2 okX8_both_2 g_56 (one41.k g_56) rfl rfl) w (fun v_59 h_57 _ _ w => ?_)
                                refine jw_goto (pc' := 233) rfl rfl ?_
                                refine jw_gen (ls' := [none, none, none, none]) (st' := [vI v_59]) (trivial) (And.intro (Or.inl rfl) (trivial)) ?_
                                exact w_X8_typeOf_233 w
def T_X8_typeOf (D : JD) (d : Nat) (Q : JO → JH → Prop) (r0 : Nat) (r1 : Nat) (h : JH) : Prop := W_X8_typeOf_0 D d Q r0 r1 h
theorem t_X8_typeOf {D : JD} {d : Nat} {Q : JO → JH → Prop} {r0 : Nat} {r1 : Nat} {h : JH} (w : T_X8_typeOf D d Q r0 r1 h) : cX8_typeOf D (d + 1) r0 r1 h Q := by
  unfold T_X8_typeOf at w
  unfold cX8_typeOf
  exact w_X8_typeOf_0 w
def W_X8_column_143 (D : JD) (d : Nat) (Q : JO → JH → Prop) (r0 : Nat) (r1 : Nat) (q0 : Nat) (s1 : Int32) (h : JH) : Prop :=
  q0 ≠ 0 ∧ (cX8_must D d q0 s1 (jcs D 310) h (pV D h (fun h_2 => r0 ≠ 0 ∧ (r1 ≠ 0 ∧ ((jfr h_2 200 r0) ≠ 0 ∧ jin (jfi h_2 313 r1) (jln h_2 (jfr h_2 200 r0)) ∧ ((jar h_2 (jfr h_2 200 r0) (ixn (jfi h_2 313 r1))) ≠ 0 ∧ ((jfr h_2 252 (jar h_2 (jfr h_2 200 r0) (ixn (jfi h_2 313 r1)))) ≠ 0 ∧ jin (jfi h_2 314 r1) (jln h_2 (jfr h_2 252 (jar h_2 (jfr h_2 200 r0) (ixn (jfi h_2 313 r1))))) ∧ (Q (.inl (some (vI (jai h_2 (jfr h_2 252 (jar h_2 (jfr h_2 200 r0) (ixn (jfi h_2 313 r1)))) (ixn (jfi h_2 314 r1)))))) h_2)))))) (jth Q)))
theorem w_X8_column_143 {D : JD} {d : Nat} {Q : JO → JH → Prop} {r0 : Nat} {r1 : Nat} {q0 : Nat} {s1 : Int32} {h : JH} (w : W_X8_column_143 D d Q r0 r1 q0 s1 h) : JW D (d + 1) mX8_column 143 [some (vR 41 r0), some (vR 48 r1), none, none, none, none] [vI s1, vR 41 q0] h Q := by
  unfold W_X8_column_143 at w
  refine jw_ldcwS (pc' := 146) rfl rfl rfl rfl ?_
  obtain ⟨g_1, w⟩ := w
  refine jw_cV (st := []) (sa := [vR 41 q0, vI s1, vR 51 (jcs D 310)]) okX8_must rfl rfl rfl rfl rfl rfl (jstp_virtual (sa := [vI s1, vR 51 (jcs D 310)]) (st := []) (k := 0) rfl rfl sX8_must okX8_must g_1 (one41.k g_1) rfl rfl) w (fun h_2 _ _ w => ?_)
  refine jw_aload_n (pc' := 150) rfl rfl ?_
  obtain ⟨g_5, w⟩ := w
  refine jw_getR (pc' := 153) (F := 200) (t' := 167) rfl rfl rfl rfl rfl g_5 ?_
  refine jw_aload_n (pc' := 154) rfl rfl ?_
  obtain ⟨g_6, w⟩ := w
  refine jw_getI (pc' := 157) (F := 313) rfl rfl rfl rfl g_6 ?_
  obtain ⟨g_7, w⟩ := w
  obtain ⟨g_8, w⟩ := w
  refine jw_aald (pc' := 158) (t' := 44) rfl rfl rfl rfl g_7 g_8.ix g_8.2 ?_
  obtain ⟨g_9, w⟩ := w
  refine jw_getR (pc' := 161) (F := 252) (t' := 189) rfl rfl rfl rfl rfl g_9 ?_
  refine jw_aload_n (pc' := 162) rfl rfl ?_
  refine jw_getI (pc' := 165) (F := 314) rfl rfl rfl rfl g_6 ?_
  obtain ⟨g_10, w⟩ := w
  obtain ⟨g_11, w⟩ := w
  refine jw_iald (pc' := 166) rfl rfl rfl rfl g_10 g_11.ix g_11.2 ?_
  exact jw_ireturn rfl rfl (rfl) w
def W_X8_column_126 (D : JD) (d : Nat) (Q : JO → JH → Prop) (r0 : Nat) (r1 : Nat) (x2 : Int32) (q0 : Nat) (s1 : Int32) (h : JH) : Prop :=
  q0 ≠ 0 ∧ (cX8_must D d q0 s1 (jcs D 304) h (pV D h (fun h_2 => (¬ x2 = (1 : Int32) → W_X8_column_143 D d Q r0 r1 r0 (0 : Int32) h_2) ∧ (x2 = (1 : Int32) → W_X8_column_143 D d Q r0 r1 r0 (1 : Int32) h_2)) (jth Q)))
theorem w_X8_column_126 {D : JD} {d : Nat} {Q : JO → JH → Prop} {r0 : Nat} {r1 : Nat} {x2 : Int32} {q0 : Nat} {s1 : Int32} {h : JH} (w : W_X8_column_126 D d Q r0 r1 x2 q0 s1 h) : JW D (d + 1) mX8_column 126 [some (vR 41 r0), some (vR 48 r1), some (vI x2), none, none, none] [vI s1, vR 41 q0] h Q := by
  unfold W_X8_column_126 at w
  refine jw_ldcwS (pc' := 129) rfl rfl rfl rfl ?_
  obtain ⟨g_1, w⟩ := w
  refine jw_cV (st := []) (sa := [vR 41 q0, vI s1, vR 51 (jcs D 304)]) okX8_must rfl rfl rfl rfl rfl rfl (jstp_virtual (sa := [vI s1, vR 51 (jcs D 304)]) (st := []) (k := 0) rfl rfl sX8_must okX8_must g_1 (one41.k g_1) rfl rfl) w (fun h_2 _ _ w => ?_)
  refine jw_aload_n (pc' := 133) rfl rfl ?_
  refine jw_iload_n (pc' := 134) rfl rfl ?_
  refine jw_iconst (pc' := 135) (x := (1 : Int32)) rfl rfl ?_
  refine jw_icmp_ne (tgt := 142) (pc' := 138) rfl rfl (fun c_5 => ?_) (fun c_5 => ?_)
  · replace w := w.1 c_5
    refine jw_iconst (pc' := 143) (x := (0 : Int32)) rfl rfl ?_
    refine jw_gen (ls' := [some (vR 41 r0), some (vR 48 r1), none, none, none, none]) (st' := [vI (0 : Int32), vR 41 r0]) (And.intro (Or.inl rfl) (And.intro (Or.inl rfl) (trivial))) (And.intro (Or.inl rfl) (And.intro (Or.inl rfl) (trivial))) ?_
    exact w_X8_column_143 w
  · replace w := w.2 c_5
    refine jw_iconst (pc' := 139) (x := (1 : Int32)) rfl rfl ?_
    refine jw_goto (pc' := 143) rfl rfl ?_
    refine jw_gen (ls' := [some (vR 41 r0), some (vR 48 r1), none, none, none, none]) (st' := [vI (1 : Int32), vR 41 r0]) (And.intro (Or.inl rfl) (And.intro (Or.inl rfl) (trivial))) (And.intro (Or.inl rfl) (And.intro (Or.inl rfl) (trivial))) ?_
    exact w_X8_column_143 w
def W_X8_column_110 (D : JD) (d : Nat) (Q : JO → JH → Prop) (r0 : Nat) (r1 : Nat) (x2 : Int32) (q0 : Nat) (s1 : Int32) (h : JH) : Prop :=
  q0 ≠ 0 ∧ (cX8_must D d q0 s1 (jcs D 303) h (pV D h (fun h_2 => (x2 ≤ 0 → W_X8_column_126 D d Q r0 r1 x2 r0 (0 : Int32) h_2) ∧ (¬ x2 ≤ 0 → W_X8_column_126 D d Q r0 r1 x2 r0 (1 : Int32) h_2)) (jth Q)))
theorem w_X8_column_110 {D : JD} {d : Nat} {Q : JO → JH → Prop} {r0 : Nat} {r1 : Nat} {x2 : Int32} {q0 : Nat} {s1 : Int32} {h : JH} (w : W_X8_column_110 D d Q r0 r1 x2 q0 s1 h) : JW D (d + 1) mX8_column 110 [some (vR 41 r0), some (vR 48 r1), some (vI x2), none, none, none] [vI s1, vR 41 q0] h Q := by
  unfold W_X8_column_110 at w
  refine jw_ldcwS (pc' := 113) rfl rfl rfl rfl ?_
  obtain ⟨g_1, w⟩ := w
  refine jw_cV (st := []) (sa := [vR 41 q0, vI s1, vR 51 (jcs D 303)]) okX8_must rfl rfl rfl rfl rfl rfl (jstp_virtual (sa := [vI s1, vR 51 (jcs D 303)]) (st := []) (k := 0) rfl rfl sX8_must okX8_must g_1 (one41.k g_1) rfl rfl) w (fun h_2 _ _ w => ?_)
  refine jw_aload_n (pc' := 117) rfl rfl ?_
  refine jw_iload_n (pc' := 118) rfl rfl ?_
  refine jw_if_le (tgt := 125) (pc' := 121) rfl rfl (fun c_5 => ?_) (fun c_5 => ?_)
  · replace w := w.1 c_5
    refine jw_iconst (pc' := 126) (x := (0 : Int32)) rfl rfl ?_
    exact w_X8_column_126 w
  · replace w := w.2 c_5
    refine jw_iconst (pc' := 122) (x := (1 : Int32)) rfl rfl ?_
    refine jw_goto (pc' := 126) rfl rfl ?_
    exact w_X8_column_126 w
def W_X8_column_105 (D : JD) (d : Nat) (Q : JO → JH → Prop) (r0 : Nat) (r1 : Nat) (x2 : Int32) (q0 : Nat) (h : JH) : Prop :=
  W_X8_column_110 D d Q r0 r1 x2 q0 (1 : Int32) h
theorem w_X8_column_105 {D : JD} {d : Nat} {Q : JO → JH → Prop} {r0 : Nat} {r1 : Nat} {x2 : Int32} {q0 : Nat} {h : JH} (w : W_X8_column_105 D d Q r0 r1 x2 q0 h) : JW D (d + 1) mX8_column 105 [some (vR 41 r0), some (vR 48 r1), some (vI x2), none, none, none] [vR 41 q0] h Q := by
  unfold W_X8_column_105 at w
  refine jw_iconst (pc' := 106) (x := (1 : Int32)) rfl rfl ?_
  refine jw_goto (pc' := 110) rfl rfl ?_
  exact w_X8_column_110 w
def W_X8_column_87 (D : JD) (d : Nat) (Q : JO → JH → Prop) (K7 : Nat → Nat → Int32 → Int32 → Int32 → JH → Prop) (r0 : Nat) (r1 : Nat) (x2 : Int32) (x3 : Int32) (x4 : Int32) (h : JH) : Prop :=
  K7 r0 r1 x2 x3 (x4 + (1 : Int32)) h
theorem w_X8_column_87 {D : JD} {d : Nat} {Q : JO → JH → Prop} {K7 : Nat → Nat → Int32 → Int32 → Int32 → JH → Prop} {r0 : Nat} {r1 : Nat} {x2 : Int32} {x3 : Int32} {x4 : Int32} {h : JH} (hK7 : ∀ (r0 : Nat) (r1 : Nat) (x2 : Int32) (x3 : Int32) (x4 : Int32) (h : JH), K7 r0 r1 x2 x3 x4 h → JW D (d + 1) mX8_column 7 [some (vR 41 r0), some (vR 48 r1), some (vI x2), some (vI x3), some (vI x4), none] [] h Q) (w : W_X8_column_87 D d Q K7 r0 r1 x2 x3 x4 h) : JW D (d + 1) mX8_column 87 [some (vR 41 r0), some (vR 48 r1), some (vI x2), some (vI x3), some (vI x4), none] [] h Q := by
  unfold W_X8_column_87 at w
  refine jw_iinc (pc' := 90) (y := x4 + (1 : Int32)) (ls' := [some (vR 41 r0), some (vR 48 r1), some (vI x2), some (vI x3), some (vI (x4 + (1 : Int32))), none]) rfl (by decide) rfl rfl rfl ?_
  refine jw_goto (pc' := 7) rfl rfl ?_
  exact hK7 _ _ _ _ _ _ w
def W_X8_column_46 (D : JD) (d : Nat) (Q : JO → JH → Prop) (K7 : Nat → Nat → Int32 → Int32 → Int32 → JH → Prop) (r0 : Nat) (r1 : Nat) (x2 : Int32) (x4 : Int32) (h : JH) : Prop :=
  r0 ≠ 0 ∧ ((jfr h 200 r0) ≠ 0 ∧ jin x4 (jln h (jfr h 200 r0)) ∧ (r1 ≠ 0 ∧ ((jar h (jfr h 200 r0) (ixn x4)) ≠ 0 ∧ (cX11_find D d (jar h (jfr h 200 r0) (ixn x4)) (jfr h 307 r1) h (pI D h (fun v_8 h_6 => (0 ≤ v_8 → ∀ h_10 : JH, h_10 = wfi h_6 313 r1 x4 → (∀ h_12 : JH, h_12 = wfi h_10 314 r1 v_8 → (W_X8_column_87 D d Q K7 r0 r1 (x2 + (1 : Int32)) (1 : Int32) x4 h_12))) ∧ (¬ 0 ≤ v_8 → W_X8_column_87 D d Q K7 r0 r1 x2 (1 : Int32) x4 h_6)) (jth Q))))))
theorem w_X8_column_46 {D : JD} {d : Nat} {Q : JO → JH → Prop} {K7 : Nat → Nat → Int32 → Int32 → Int32 → JH → Prop} {r0 : Nat} {r1 : Nat} {x2 : Int32} {x4 : Int32} {h : JH} (hK7 : ∀ (r0 : Nat) (r1 : Nat) (x2 : Int32) (x3 : Int32) (x4 : Int32) (h : JH), K7 r0 r1 x2 x3 x4 h → JW D (d + 1) mX8_column 7 [some (vR 41 r0), some (vR 48 r1), some (vI x2), some (vI x3), some (vI x4), none] [] h Q) (w : W_X8_column_46 D d Q K7 r0 r1 x2 x4 h) : JW D (d + 1) mX8_column 46 [some (vR 41 r0), some (vR 48 r1), some (vI x2), none, some (vI x4), none] [] h Q := by
  unfold W_X8_column_46 at w
  refine jw_iconst (pc' := 47) (x := (1 : Int32)) rfl rfl ?_
  refine jw_istore_n (pc' := 48) (ls' := [some (vR 41 r0), some (vR 48 r1), some (vI x2), some (vI (1 : Int32)), some (vI x4), none]) rfl (by decide) rfl ?_
  refine jw_aload_n (pc' := 49) rfl rfl ?_
  obtain ⟨g_1, w⟩ := w
  refine jw_getR (pc' := 52) (F := 200) (t' := 167) rfl rfl rfl rfl rfl g_1 ?_
  refine jw_iload (pc' := 54) rfl rfl ?_
  obtain ⟨g_2, w⟩ := w
  obtain ⟨g_3, w⟩ := w
  refine jw_aald (pc' := 55) (t' := 44) rfl rfl rfl rfl g_2 g_3.ix g_3.2 ?_
  refine jw_aload_n (pc' := 56) rfl rfl ?_
  obtain ⟨g_4, w⟩ := w
  refine jw_getR (pc' := 59) (F := 307) (t' := 64) rfl rfl rfl rfl rfl g_4 ?_
  obtain ⟨g_5, w⟩ := w
  refine jw_cI (st := []) (sa := [vR 44 (jar h (jfr h 200 r0) (ixn x4)), vR 64 (jfr h 307 r1)]) okX11_find rfl rfl rfl rfl rfl rfl (jstp_virtual (sa := [vR 64 (jfr h 307 r1)]) (st := []) (k := 0) rfl rfl sX11_find okX11_find g_5 (one44.k g_5) rfl rfl) w (fun v_8 h_6 _ _ w => ?_)
  refine jw_istore (pc' := 64) (ls' := [some (vR 41 r0), some (vR 48 r1), some (vI x2), some (vI (1 : Int32)), some (vI x4), some (vI v_8)]) rfl (by decide) rfl ?_
  refine jw_iload (pc' := 66) rfl rfl ?_
  refine jw_if_ge (tgt := 72) (pc' := 69) rfl rfl (fun c_9 => ?_) (fun c_9 => ?_)
  · replace w := w.1 c_9
    refine jw_iinc (pc' := 75) (y := x2 + (1 : Int32)) (ls' := [some (vR 41 r0), some (vR 48 r1), some (vI (x2 + (1 : Int32))), some (vI (1 : Int32)), some (vI x4), some (vI v_8)]) rfl (by decide) rfl rfl rfl ?_
    refine jw_aload_n (pc' := 76) rfl rfl ?_
    refine jw_iload (pc' := 78) rfl rfl ?_
    refine jw_putI' (pc' := 81) (F := 313) rfl rfl rfl (Or.inr rfl) (Or.inl rfl) rfl (rfl) (rfl) rfl g_4 (fun h_10 e_11 => ?_)
    replace w := w h_10 e_11
    refine jw_aload_n (pc' := 82) rfl rfl ?_
    refine jw_iload (pc' := 84) rfl rfl ?_
    refine jw_putI' (pc' := 87) (F := 314) rfl rfl rfl (Or.inr rfl) (Or.inl rfl) rfl (rfl) (rfl) rfl g_4 (fun h_12 e_13 => ?_)
    replace w := w h_12 e_13
    refine jw_gen (ls' := [some (vR 41 r0), some (vR 48 r1), some (vI (x2 + (1 : Int32))), some (vI (1 : Int32)), some (vI x4), none]) (st' := []) (And.intro (Or.inl rfl) (And.intro (Or.inl rfl) (And.intro (Or.inl rfl) (And.intro (Or.inl rfl) (And.intro (Or.inl rfl) (trivial)))))) (trivial) ?_
    exact w_X8_column_87 hK7 w
  · replace w := w.2 c_9
    refine jw_goto (pc' := 87) rfl rfl ?_
    refine jw_gen (ls' := [some (vR 41 r0), some (vR 48 r1), some (vI x2), some (vI (1 : Int32)), some (vI x4), none]) (st' := []) (And.intro (Or.inl rfl) (And.intro (Or.inl rfl) (And.intro (Or.inl rfl) (And.intro (Or.inl rfl) (And.intro (Or.inl rfl) (trivial)))))) (trivial) ?_
    exact w_X8_column_87 hK7 w
def W_X8_column_7 (D : JD) (d : Nat) (Q : JO → JH → Prop) (K7 : Nat → Nat → Int32 → Int32 → Int32 → JH → Prop) (r0 : Nat) (r1 : Nat) (x2 : Int32) (x3 : Int32) (x4 : Int32) (h : JH) : Prop :=
  r0 ≠ 0 ∧ (((jfi h 199 r0) ≤ x4 → r1 ≠ 0 ∧ (((jfr h 308 r1) = 0 → W_X8_column_105 D d Q r0 r1 x2 r0 h) ∧ ((jfr h 308 r1) ≠ 0 → (x3 = 0 → W_X8_column_110 D d Q r0 r1 x2 r0 (0 : Int32) h) ∧ (¬ x3 = 0 → W_X8_column_105 D d Q r0 r1 x2 r0 h)))) ∧ (¬ (jfi h 199 r0) ≤ x4 → r1 ≠ 0 ∧ (((jfr h 308 r1) = 0 → W_X8_column_46 D d Q K7 r0 r1 x2 x4 h) ∧ ((jfr h 308 r1) ≠ 0 → (jfr h 196 r0) ≠ 0 ∧ ((jfr h 287 (jfr h 196 r0)) ≠ 0 ∧ jin x4 (jln h (jfr h 287 (jfr h 196 r0))) ∧ ((jar h (jfr h 287 (jfr h 196 r0)) (ixn x4)) ≠ 0 ∧ (cJ5_equals D d (jar h (jfr h 287 (jfr h 196 r0)) (ixn x4)) (jfr h 308 r1) h (pI D h (fun v_14 h_12 => (¬ v_14 = 0 → W_X8_column_46 D d Q K7 r0 r1 x2 x4 h_12) ∧ (v_14 = 0 → W_X8_column_87 D d Q K7 r0 r1 x2 x3 x4 h_12)) (jth Q)))))))))
theorem w_X8_column_7 {D : JD} {d : Nat} {Q : JO → JH → Prop} {K7 : Nat → Nat → Int32 → Int32 → Int32 → JH → Prop} {r0 : Nat} {r1 : Nat} {x2 : Int32} {x3 : Int32} {x4 : Int32} {h : JH} (hK7 : ∀ (r0 : Nat) (r1 : Nat) (x2 : Int32) (x3 : Int32) (x4 : Int32) (h : JH), K7 r0 r1 x2 x3 x4 h → JW D (d + 1) mX8_column 7 [some (vR 41 r0), some (vR 48 r1), some (vI x2), some (vI x3), some (vI x4), none] [] h Q) (w : W_X8_column_7 D d Q K7 r0 r1 x2 x3 x4 h) : JW D (d + 1) mX8_column 7 [some (vR 41 r0), some (vR 48 r1), some (vI x2), some (vI x3), some (vI x4), none] [] h Q := by
  unfold W_X8_column_7 at w
  refine jw_iload (pc' := 9) rfl rfl ?_
  refine jw_aload_n (pc' := 10) rfl rfl ?_
  obtain ⟨g_1, w⟩ := w
  refine jw_getI (pc' := 13) (F := 199) rfl rfl rfl rfl g_1 ?_
  refine jw_icmp_ge (tgt := 93) (pc' := 16) rfl rfl (fun c_2 => ?_) (fun c_2 => ?_)
  · replace w := w.1 c_2
    refine jw_aload_n (pc' := 94) rfl rfl ?_
    refine jw_aload_n (pc' := 95) rfl rfl ?_
    obtain ⟨g_3, w⟩ := w
    refine jw_getR (pc' := 98) (F := 308) (t' := 64) rfl rfl rfl rfl rfl g_3 ?_
    refine jw_ifnull (tgt := 105) (pc' := 101) rfl rfl (fun c_4 => ?_) (fun c_4 => ?_)
    · replace w := w.1 c_4
      refine jw_gen (ls' := [some (vR 41 r0), some (vR 48 r1), some (vI x2), none, none, none]) (st' := [vR 41 r0]) (And.intro (Or.inl rfl) (And.intro (Or.inl rfl) (And.intro (Or.inl rfl) (trivial)))) (And.intro (Or.inl rfl) (trivial)) ?_
      exact w_X8_column_105 w
    · replace w := w.2 c_4
      refine jw_iload_n (pc' := 102) rfl rfl ?_
      refine jw_if_eq (tgt := 109) (pc' := 105) rfl rfl (fun c_5 => ?_) (fun c_5 => ?_)
      · replace w := w.1 c_5
        refine jw_iconst (pc' := 110) (x := (0 : Int32)) rfl rfl ?_
        refine jw_gen (ls' := [some (vR 41 r0), some (vR 48 r1), some (vI x2), none, none, none]) (st' := [vI (0 : Int32), vR 41 r0]) (And.intro (Or.inl rfl) (And.intro (Or.inl rfl) (And.intro (Or.inl rfl) (trivial)))) (And.intro (Or.inl rfl) (And.intro (Or.inl rfl) (trivial))) ?_
        exact w_X8_column_110 w
      · replace w := w.2 c_5
        refine jw_gen (ls' := [some (vR 41 r0), some (vR 48 r1), some (vI x2), none, none, none]) (st' := [vR 41 r0]) (And.intro (Or.inl rfl) (And.intro (Or.inl rfl) (And.intro (Or.inl rfl) (trivial)))) (And.intro (Or.inl rfl) (trivial)) ?_
        exact w_X8_column_105 w
  · replace w := w.2 c_2
    refine jw_aload_n (pc' := 17) rfl rfl ?_
    obtain ⟨g_6, w⟩ := w
    refine jw_getR (pc' := 20) (F := 308) (t' := 64) rfl rfl rfl rfl rfl g_6 ?_
    refine jw_ifnull (tgt := 46) (pc' := 23) rfl rfl (fun c_7 => ?_) (fun c_7 => ?_)
    · replace w := w.1 c_7
      refine jw_gen (ls' := [some (vR 41 r0), some (vR 48 r1), some (vI x2), none, some (vI x4), none]) (st' := []) (And.intro (Or.inl rfl) (And.intro (Or.inl rfl) (And.intro (Or.inl rfl) (And.intro (Or.inl rfl) (trivial))))) (trivial) ?_
      exact w_X8_column_46 hK7 w
    · replace w := w.2 c_7
      refine jw_aload_n (pc' := 24) rfl rfl ?_
      refine jw_getR (pc' := 27) (F := 196) (t' := 47) rfl rfl rfl rfl rfl g_1 ?_
      obtain ⟨g_8, w⟩ := w
      refine jw_getR (pc' := 30) (F := 287) (t' := 206) rfl rfl rfl rfl rfl g_8 ?_
      refine jw_iload (pc' := 32) rfl rfl ?_
      obtain ⟨g_9, w⟩ := w
      obtain ⟨g_10, w⟩ := w
      refine jw_aald (pc' := 33) (t' := 64) rfl rfl rfl rfl g_9 g_10.ix g_10.2 ?_
      refine jw_aload_n (pc' := 34) rfl rfl ?_
      refine jw_getR (pc' := 37) (F := 308) (t' := 64) rfl rfl rfl rfl rfl g_6 ?_
      obtain ⟨g_11, w⟩ := w
      refine jw_cI (st := []) (sa := [vR 64 (jar h (jfr h 287 (jfr h 196 r0)) (ixn x4)), vR 64 (jfr h 308 r1)]) okJ5_equals rfl rfl rfl rfl rfl rfl (jstp_virtual (sa := [vR 64 (jfr h 308 r1)]) (st := []) (k := 0) rfl rfl sJ5_equals okJ5_equals g_11 (one64.k g_11) rfl rfl) w (fun v_14 h_12 _ _ w => ?_)
      refine jw_if_ne (tgt := 46) (pc' := 43) rfl rfl (fun c_15 => ?_) (fun c_15 => ?_)
      · replace w := w.1 c_15
        refine jw_gen (ls' := [some (vR 41 r0), some (vR 48 r1), some (vI x2), none, some (vI x4), none]) (st' := []) (And.intro (Or.inl rfl) (And.intro (Or.inl rfl) (And.intro (Or.inl rfl) (And.intro (Or.inl rfl) (trivial))))) (trivial) ?_
        exact w_X8_column_46 hK7 w
      · replace w := w.2 c_15
        refine jw_goto (pc' := 87) rfl rfl ?_
        exact w_X8_column_87 hK7 w
def L_X8_column_7 (D : JD) (d : Nat) (Q : JO → JH → Prop) : Nat → Nat → Nat → Int32 → Int32 → Int32 → JH → Prop
  | 0 => fun _ _ _ _ _ _ => False
  | n + 1 => fun r0 r1 x2 x3 x4 h => W_X8_column_7 D d Q (L_X8_column_7 D d Q n) r0 r1 x2 x3 x4 h
theorem l_X8_column_7 {D : JD} {d : Nat} {Q : JO → JH → Prop} : ∀ (n : Nat) (r0 : Nat) (r1 : Nat) (x2 : Int32) (x3 : Int32) (x4 : Int32) (h : JH), L_X8_column_7 D d Q n r0 r1 x2 x3 x4 h → JW D (d + 1) mX8_column 7 [some (vR 41 r0), some (vR 48 r1), some (vI x2), some (vI x3), some (vI x4), none] [] h Q := by
  intro n
  induction n with
  | zero => intro _ _ _ _ _ _ w; exact w.elim
  | succ n ih => intro _ _ _ _ _ h w; exact w_X8_column_7 ih w
def W_X8_column_0 (D : JD) (d : Nat) (Q : JO → JH → Prop) (r0 : Nat) (r1 : Nat) (h : JH) : Prop :=
  ∃ n, L_X8_column_7 D d Q n r0 r1 (0 : Int32) (0 : Int32) (0 : Int32) h
theorem w_X8_column_0 {D : JD} {d : Nat} {Q : JO → JH → Prop} {r0 : Nat} {r1 : Nat} {h : JH} (w : W_X8_column_0 D d Q r0 r1 h) : JW D (d + 1) mX8_column 0 [some (vR 41 r0), some (vR 48 r1), none, none, none, none] [] h Q := by
  unfold W_X8_column_0 at w
  refine jw_iconst (pc' := 1) (x := (0 : Int32)) rfl rfl ?_
  refine jw_istore_n (pc' := 2) (ls' := [some (vR 41 r0), some (vR 48 r1), some (vI (0 : Int32)), none, none, none]) rfl (by decide) rfl ?_
  refine jw_iconst (pc' := 3) (x := (0 : Int32)) rfl rfl ?_
  refine jw_istore_n (pc' := 4) (ls' := [some (vR 41 r0), some (vR 48 r1), some (vI (0 : Int32)), some (vI (0 : Int32)), none, none]) rfl (by decide) rfl ?_
  refine jw_iconst (pc' := 5) (x := (0 : Int32)) rfl rfl ?_
  refine jw_istore (pc' := 7) (ls' := [some (vR 41 r0), some (vR 48 r1), some (vI (0 : Int32)), some (vI (0 : Int32)), some (vI (0 : Int32)), none]) rfl (by decide) rfl ?_
  obtain ⟨n, w⟩ := w
  exact l_X8_column_7 n _ _ _ _ _ _ w
def T_X8_column (D : JD) (d : Nat) (Q : JO → JH → Prop) (r0 : Nat) (r1 : Nat) (h : JH) : Prop := W_X8_column_0 D d Q r0 r1 h
theorem t_X8_column {D : JD} {d : Nat} {Q : JO → JH → Prop} {r0 : Nat} {r1 : Nat} {h : JH} (w : T_X8_column D d Q r0 r1 h) : cX8_column D (d + 1) r0 r1 h Q := by
  unfold T_X8_column at w
  unfold cX8_column
  exact w_X8_column_0 w
def W_X8_function_622 (D : JD) (d : Nat) (Q : JO → JH → Prop) (K622 : Nat → Nat → Int32 → Int32 → JH → Prop) (r0 : Nat) (r1 : Nat) (x5 : Int32) (x8 : Int32) (h : JH) : Prop :=
  r1 ≠ 0 ∧ (((jfi h 311 r1) ≤ x8 → Q (.inl (some (vI x5))) h) ∧ (¬ (jfi h 311 r1) ≤ x8 → (jfr h 310 r1) ≠ 0 ∧ jin x8 (jln h (jfr h 310 r1)) ∧ ((jar h (jfr h 310 r1) (ixn x8)) ≠ 0 ∧ (r0 ≠ 0 ∧ (cX8_same D d r0 x5 (jfi h 312 (jar h (jfr h 310 r1) (ixn x8))) h (pI D h (fun v_9 h_7 => K622 r0 r1 v_9 (x8 + (1 : Int32)) h_7) (jth Q)))))))
theorem w_X8_function_622 {D : JD} {d : Nat} {Q : JO → JH → Prop} {K622 : Nat → Nat → Int32 → Int32 → JH → Prop} {r0 : Nat} {r1 : Nat} {x5 : Int32} {x8 : Int32} {h : JH} (hK622 : ∀ (r0 : Nat) (r1 : Nat) (x5 : Int32) (x8 : Int32) (h : JH), K622 r0 r1 x5 x8 h → JW D (d + 1) mX8_function 622 [some (vR 41 r0), some (vR 48 r1), none, none, none, some (vI x5), none, none, some (vI x8)] [] h Q) (w : W_X8_function_622 D d Q K622 r0 r1 x5 x8 h) : JW D (d + 1) mX8_function 622 [some (vR 41 r0), some (vR 48 r1), none, none, none, some (vI x5), none, none, some (vI x8)] [] h Q := by
  unfold W_X8_function_622 at w
  refine jw_iload (pc' := 624) rfl rfl ?_
  refine jw_aload_n (pc' := 625) rfl rfl ?_
  obtain ⟨g_1, w⟩ := w
  refine jw_getI (pc' := 628) (F := 311) rfl rfl rfl rfl g_1 ?_
  refine jw_icmp_ge (tgt := 655) (pc' := 631) rfl rfl (fun c_2 => ?_) (fun c_2 => ?_)
  · replace w := w.1 c_2
    refine jw_iload (pc' := 657) rfl rfl ?_
    exact jw_ireturn rfl rfl (rfl) w
  · replace w := w.2 c_2
    refine jw_aload_n (pc' := 632) rfl rfl ?_
    refine jw_iload (pc' := 634) rfl rfl ?_
    refine jw_aload_n (pc' := 635) rfl rfl ?_
    refine jw_getR (pc' := 638) (F := 310) (t' := 215) rfl rfl rfl rfl rfl g_1 ?_
    refine jw_iload (pc' := 640) rfl rfl ?_
    obtain ⟨g_3, w⟩ := w
    obtain ⟨g_4, w⟩ := w
    refine jw_aald (pc' := 641) (t' := 48) rfl rfl rfl rfl g_3 g_4.ix g_4.2 ?_
    obtain ⟨g_5, w⟩ := w
    refine jw_getI (pc' := 644) (F := 312) rfl rfl rfl rfl g_5 ?_
    obtain ⟨g_6, w⟩ := w
    refine jw_cI (st := []) (sa := [vR 41 r0, vI x5, vI (jfi h 312 (jar h (jfr h 310 r1) (ixn x8)))]) okX8_same rfl rfl rfl rfl rfl rfl (jstp_virtual (sa := [vI x5, vI (jfi h 312 (jar h (jfr h 310 r1) (ixn x8)))]) (st := []) (k := 0) rfl rfl sX8_same okX8_same g_6 (one41.k g_6) rfl rfl) w (fun v_9 h_7 _ _ w => ?_)
    refine jw_istore (pc' := 649) (ls' := [some (vR 41 r0), some (vR 48 r1), none, none, none, some (vI v_9), none, none, some (vI x8)]) rfl (by decide) rfl ?_
    refine jw_iinc (pc' := 652) (y := x8 + (1 : Int32)) (ls' := [some (vR 41 r0), some (vR 48 r1), none, none, none, some (vI v_9), none, none, some (vI (x8 + (1 : Int32)))]) rfl (by decide) rfl rfl rfl ?_
    refine jw_goto (pc' := 622) rfl rfl ?_
    exact hK622 _ _ _ _ _ w
def L_X8_function_622 (D : JD) (d : Nat) (Q : JO → JH → Prop) : Nat → Nat → Nat → Int32 → Int32 → JH → Prop
  | 0 => fun _ _ _ _ _ => False
  | n + 1 => fun r0 r1 x5 x8 h => W_X8_function_622 D d Q (L_X8_function_622 D d Q n) r0 r1 x5 x8 h
theorem l_X8_function_622 {D : JD} {d : Nat} {Q : JO → JH → Prop} : ∀ (n : Nat) (r0 : Nat) (r1 : Nat) (x5 : Int32) (x8 : Int32) (h : JH), L_X8_function_622 D d Q n r0 r1 x5 x8 h → JW D (d + 1) mX8_function 622 [some (vR 41 r0), some (vR 48 r1), none, none, none, some (vI x5), none, none, some (vI x8)] [] h Q := by
  intro n
  induction n with
  | zero => intro _ _ _ _ _ w; exact w.elim
  | succ n ih => intro _ _ _ _ h w; exact w_X8_function_622 ih w
def W_X8_function_477 (D : JD) (d : Nat) (Q : JO → JH → Prop) (r0 : Nat) (r1 : Nat) (x5 : Int32) (x7 : Int32) (h : JH) : Prop :=
  (x7 = (0 : Int32) → Q (.inl (some (vI (20 : Int32)))) h) ∧ (x7 = (1 : Int32) → r0 ≠ 0 ∧ (cX8_both_2 D d r0 r1 (20 : Int32) (20 : Int32) h (pI D h (fun v_6 h_4 => Q (.inl (some (vI v_6))) h_4) (jth Q)))) ∧ (x7 = (2 : Int32) → r0 ≠ 0 ∧ (cX8_both_2 D d r0 r1 (20 : Int32) (20 : Int32) h (pI D h (fun v_11 h_9 => Q (.inl (some (vI v_11))) h_9) (jth Q)))) ∧ (x7 = (3 : Int32) → r1 ≠ 0 ∧ ((jfr h 310 r1) ≠ 0 ∧ jin (0 : Int32) (jln h (jfr h 310 r1)) ∧ ((jar h (jfr h 310 r1) (ixn (0 : Int32))) ≠ 0 ∧ (Q (.inl (some (vI (jfi h 312 (jar h (jfr h 310 r1) (ixn (0 : Int32))))))) h)))) ∧ (x7 = (4 : Int32) → r1 ≠ 0 ∧ ((jfr h 310 r1) ≠ 0 ∧ jin (0 : Int32) (jln h (jfr h 310 r1)) ∧ ((jar h (jfr h 310 r1) (ixn (0 : Int32))) ≠ 0 ∧ (Q (.inl (some (vI (jfi h 312 (jar h (jfr h 310 r1) (ixn (0 : Int32))))))) h)))) ∧ (x7 = (5 : Int32) → r0 ≠ 0 ∧ (cX8_both_2 D d r0 r1 (25 : Int32) (20 : Int32) h (pI D h (fun v_26 h_24 => Q (.inl (some (vI v_26))) h_24) (jth Q)))) ∧ (x7 = (6 : Int32) → r0 ≠ 0 ∧ (cX8_both_2 D d r0 r1 (25 : Int32) (25 : Int32) h (pI D h (fun v_31 h_29 => Q (.inl (some (vI v_31))) h_29) (jth Q)))) ∧ (x7 = (7 : Int32) → r0 ≠ 0 ∧ (cX8_both_2 D d r0 r1 (25 : Int32) (25 : Int32) h (pI D h (fun v_36 h_34 => Q (.inl (some (vI v_36))) h_34) (jth Q)))) ∧ (x7 = (8 : Int32) → r1 ≠ 0 ∧ ((jfr h 310 r1) ≠ 0 ∧ jin (0 : Int32) (jln h (jfr h 310 r1)) ∧ ((jar h (jfr h 310 r1) (ixn (0 : Int32))) ≠ 0 ∧ (r0 ≠ 0 ∧ (cX8_fits D d r0 (jfi h 312 (jar h (jfr h 310 r1) (ixn (0 : Int32)))) (25 : Int32) h (pV D h (fun h_43 => (jfr h_43 310 r1) ≠ 0 ∧ jin (1 : Int32) (jln h_43 (jfr h_43 310 r1)) ∧ ((jar h_43 (jfr h_43 310 r1) (ixn (1 : Int32))) ≠ 0 ∧ (cX8_fits D d r0 (jfi h_43 312 (jar h_43 (jfr h_43 310 r1) (ixn (1 : Int32)))) (20 : Int32) h_43 (pV D h_43 (fun h_49 => (jfr h_49 310 r1) ≠ 0 ∧ jin (2 : Int32) (jln h_49 (jfr h_49 310 r1)) ∧ ((jar h_49 (jfr h_49 310 r1) (ixn (2 : Int32))) ≠ 0 ∧ (cX8_fits D d r0 (jfi h_49 312 (jar h_49 (jfr h_49 310 r1) (ixn (2 : Int32)))) (20 : Int32) h_49 (pV D h_49 (fun h_55 => Q (.inl (some (vI (25 : Int32)))) h_55) (jth Q))))) (jth Q))))) (jth Q))))))) ∧ (¬ x7 = (0 : Int32) → ¬ x7 = (1 : Int32) → ¬ x7 = (2 : Int32) → ¬ x7 = (3 : Int32) → ¬ x7 = (4 : Int32) → ¬ x7 = (5 : Int32) → ¬ x7 = (6 : Int32) → ¬ x7 = (7 : Int32) → ¬ x7 = (8 : Int32) → ∃ n, L_X8_function_622 D d Q n r0 r1 x5 (0 : Int32) h)
theorem w_X8_function_477 {D : JD} {d : Nat} {Q : JO → JH → Prop} {r0 : Nat} {r1 : Nat} {x5 : Int32} {x7 : Int32} {h : JH} (w : W_X8_function_477 D d Q r0 r1 x5 x7 h) : JW D (d + 1) mX8_function 477 [some (vR 41 r0), some (vR 48 r1), none, none, none, some (vI x5), none, some (vI x7), none] [] h Q := by
  unfold W_X8_function_477 at w
  refine jw_iload (pc' := 479) rfl rfl ?_
  refine jw_tsw (cs := [((0 : Int32), 528), ((1 : Int32), 531), ((2 : Int32), 531), ((3 : Int32), 541), ((4 : Int32), 541), ((5 : Int32), 551), ((6 : Int32), 561), ((7 : Int32), 561), ((8 : Int32), 571)]) (dt := 619) rfl (by decide +kernel) ?_
  by_cases c_1 : x7 = (0 : Int32)
  · rw [jsw_hit c_1]
    replace w := w.1 c_1
    refine jw_bipush (pc' := 530) (x := (20 : Int32)) rfl rfl ?_
    exact jw_ireturn rfl rfl (rfl) w
  · rw [jsw_miss c_1]
    replace w := w.2
    by_cases c_2 : x7 = (1 : Int32)
    · rw [jsw_hit c_2]
      replace w := w.1 c_2
      refine jw_aload_n (pc' := 532) rfl rfl ?_
      refine jw_aload_n (pc' := 533) rfl rfl ?_
      refine jw_bipush (pc' := 535) (x := (20 : Int32)) rfl rfl ?_
      refine jw_bipush (pc' := 537) (x := (20 : Int32)) rfl rfl ?_
      obtain ⟨g_3, w⟩ := w
      refine jw_cI (st := []) (sa := [vR 41 r0, vR 48 r1, vI (20 : Int32), vI (20 : Int32)]) okX8_both_2 rfl rfl rfl rfl rfl rfl (jstp_virtual (sa := [vR 48 r1, vI (20 : Int32), vI (20 : Int32)]) (st := []) (k := 0) rfl rfl sX8_both_2 okX8_both_2 g_3 (one41.k g_3) rfl rfl) w (fun v_6 h_4 _ _ w => ?_)
      exact jw_ireturn rfl rfl (rfl) w
    · rw [jsw_miss c_2]
      replace w := w.2
      by_cases c_7 : x7 = (2 : Int32)
      · rw [jsw_hit c_7]
        replace w := w.1 c_7
        refine jw_aload_n (pc' := 532) rfl rfl ?_
        refine jw_aload_n (pc' := 533) rfl rfl ?_
        refine jw_bipush (pc' := 535) (x := (20 : Int32)) rfl rfl ?_
        refine jw_bipush (pc' := 537) (x := (20 : Int32)) rfl rfl ?_
        obtain ⟨g_8, w⟩ := w
        refine jw_cI (st := []) (sa := [vR 41 r0, vR 48 r1, vI (20 : Int32), vI (20 : Int32)]) okX8_both_2 rfl rfl rfl rfl rfl rfl (jstp_virtual (sa := [vR 48 r1, vI (20 : Int32), vI (20 : Int32)]) (st := []) (k := 0) rfl rfl sX8_both_2 okX8_both_2 g_8 (one41.k g_8) rfl rfl) w (fun v_11 h_9 _ _ w => ?_)
        exact jw_ireturn rfl rfl (rfl) w
      · rw [jsw_miss c_7]
        replace w := w.2
        by_cases c_12 : x7 = (3 : Int32)
        · rw [jsw_hit c_12]
          replace w := w.1 c_12
          refine jw_aload_n (pc' := 542) rfl rfl ?_
          obtain ⟨g_13, w⟩ := w
          refine jw_getR (pc' := 545) (F := 310) (t' := 215) rfl rfl rfl rfl rfl g_13 ?_
          refine jw_iconst (pc' := 546) (x := (0 : Int32)) rfl rfl ?_
          obtain ⟨g_14, w⟩ := w
          obtain ⟨g_15, w⟩ := w
          refine jw_aald (pc' := 547) (t' := 48) rfl rfl rfl rfl g_14 g_15.ix g_15.2 ?_
          obtain ⟨g_16, w⟩ := w
          refine jw_getI (pc' := 550) (F := 312) rfl rfl rfl rfl g_16 ?_
          exact jw_ireturn rfl rfl (rfl) w
        · rw [jsw_miss c_12]
          replace w := w.2
          by_cases c_17 : x7 = (4 : Int32)
          · rw [jsw_hit c_17]
            replace w := w.1 c_17
            refine jw_aload_n (pc' := 542) rfl rfl ?_
            obtain ⟨g_18, w⟩ := w
            refine jw_getR (pc' := 545) (F := 310) (t' := 215) rfl rfl rfl rfl rfl g_18 ?_
            refine jw_iconst (pc' := 546) (x := (0 : Int32)) rfl rfl ?_
            obtain ⟨g_19, w⟩ := w
            obtain ⟨g_20, w⟩ := w
            refine jw_aald (pc' := 547) (t' := 48) rfl rfl rfl rfl g_19 g_20.ix g_20.2 ?_
            obtain ⟨g_21, w⟩ := w
            refine jw_getI (pc' := 550) (F := 312) rfl rfl rfl rfl g_21 ?_
            exact jw_ireturn rfl rfl (rfl) w
          · rw [jsw_miss c_17]
            replace w := w.2
            by_cases c_22 : x7 = (5 : Int32)
            · rw [jsw_hit c_22]
              replace w := w.1 c_22
              refine jw_aload_n (pc' := 552) rfl rfl ?_
              refine jw_aload_n (pc' := 553) rfl rfl ?_
              refine jw_bipush (pc' := 555) (x := (25 : Int32)) rfl rfl ?_
              refine jw_bipush (pc' := 557) (x := (20 : Int32)) rfl rfl ?_
              obtain ⟨g_23, w⟩ := w
              refine jw_cI (st := []) (sa := [vR 41 r0, vR 48 r1, vI (25 : Int32), vI (20 : Int32)]) okX8_both_2 rfl rfl rfl rfl rfl rfl (jstp_virtual (sa := [vR 48 r1, vI (25 : Int32), vI (20 : Int32)]) (st := []) (k := 0) rfl rfl sX8_both_2 okX8_both_2 g_23 (one41.k g_23) rfl rfl) w (fun v_26 h_24 _ _ w => ?_)
              exact jw_ireturn rfl rfl (rfl) w
            · rw [jsw_miss c_22]
              replace w := w.2
              by_cases c_27 : x7 = (6 : Int32)
              · rw [jsw_hit c_27]
                replace w := w.1 c_27
                refine jw_aload_n (pc' := 562) rfl rfl ?_
                refine jw_aload_n (pc' := 563) rfl rfl ?_
                refine jw_bipush (pc' := 565) (x := (25 : Int32)) rfl rfl ?_
                refine jw_bipush (pc' := 567) (x := (25 : Int32)) rfl rfl ?_
                obtain ⟨g_28, w⟩ := w
                refine jw_cI (st := []) (sa := [vR 41 r0, vR 48 r1, vI (25 : Int32), vI (25 : Int32)]) okX8_both_2 rfl rfl rfl rfl rfl rfl (jstp_virtual (sa := [vR 48 r1, vI (25 : Int32), vI (25 : Int32)]) (st := []) (k := 0) rfl rfl sX8_both_2 okX8_both_2 g_28 (one41.k g_28) rfl rfl) w (fun v_31 h_29 _ _ w => ?_)
                exact jw_ireturn rfl rfl (rfl) w
              · rw [jsw_miss c_27]
                replace w := w.2
                by_cases c_32 : x7 = (7 : Int32)
                · rw [jsw_hit c_32]
                  replace w := w.1 c_32
                  refine jw_aload_n (pc' := 562) rfl rfl ?_
                  refine jw_aload_n (pc' := 563) rfl rfl ?_
                  refine jw_bipush (pc' := 565) (x := (25 : Int32)) rfl rfl ?_
                  refine jw_bipush (pc' := 567) (x := (25 : Int32)) rfl rfl ?_
                  obtain ⟨g_33, w⟩ := w
                  refine jw_cI (st := []) (sa := [vR 41 r0, vR 48 r1, vI (25 : Int32), vI (25 : Int32)]) okX8_both_2 rfl rfl rfl rfl rfl rfl (jstp_virtual (sa := [vR 48 r1, vI (25 : Int32), vI (25 : Int32)]) (st := []) (k := 0) rfl rfl sX8_both_2 okX8_both_2 g_33 (one41.k g_33) rfl rfl) w (fun v_36 h_34 _ _ w => ?_)
                  exact jw_ireturn rfl rfl (rfl) w
                · rw [jsw_miss c_32]
                  replace w := w.2
                  by_cases c_37 : x7 = (8 : Int32)
                  · rw [jsw_hit c_37]
                    replace w := w.1 c_37
                    refine jw_aload_n (pc' := 572) rfl rfl ?_
                    refine jw_aload_n (pc' := 573) rfl rfl ?_
                    obtain ⟨g_38, w⟩ := w
                    refine jw_getR (pc' := 576) (F := 310) (t' := 215) rfl rfl rfl rfl rfl g_38 ?_
                    refine jw_iconst (pc' := 577) (x := (0 : Int32)) rfl rfl ?_
                    obtain ⟨g_39, w⟩ := w
                    obtain ⟨g_40, w⟩ := w
                    refine jw_aald (pc' := 578) (t' := 48) rfl rfl rfl rfl g_39 g_40.ix g_40.2 ?_
                    obtain ⟨g_41, w⟩ := w
                    refine jw_getI (pc' := 581) (F := 312) rfl rfl rfl rfl g_41 ?_
                    refine jw_bipush (pc' := 583) (x := (25 : Int32)) rfl rfl ?_
                    obtain ⟨g_42, w⟩ := w
                    refine jw_cV (st := []) (sa := [vR 41 r0, vI (jfi h 312 (jar h (jfr h 310 r1) (ixn (0 : Int32)))), vI (25 : Int32)]) okX8_fits rfl rfl rfl rfl rfl rfl (jstp_virtual (sa := [vI (jfi h 312 (jar h (jfr h 310 r1) (ixn (0 : Int32)))), vI (25 : Int32)]) (st := []) (k := 0) rfl rfl sX8_fits okX8_fits g_42 (one41.k g_42) rfl rfl) w (fun h_43 _ _ w => ?_)
                    refine jw_aload_n (pc' := 587) rfl rfl ?_
                    refine jw_aload_n (pc' := 588) rfl rfl ?_
                    refine jw_getR (pc' := 591) (F := 310) (t' := 215) rfl rfl rfl rfl rfl g_38 ?_
                    refine jw_iconst (pc' := 592) (x := (1 : Int32)) rfl rfl ?_
                    obtain ⟨g_46, w⟩ := w
                    obtain ⟨g_47, w⟩ := w
                    refine jw_aald (pc' := 593) (t' := 48) rfl rfl rfl rfl g_46 g_47.ix g_47.2 ?_
                    obtain ⟨g_48, w⟩ := w
                    refine jw_getI (pc' := 596) (F := 312) rfl rfl rfl rfl g_48 ?_
                    refine jw_bipush (pc' := 598) (x := (20 : Int32)) rfl rfl ?_
                    refine jw_cV (st := []) (sa := [vR 41 r0, vI (jfi h_43 312 (jar h_43 (jfr h_43 310 r1) (ixn (1 : Int32)))), vI (20 : Int32)]) okX8_fits rfl rfl rfl rfl rfl rfl (jstp_virtual (sa := [vI (jfi h_43 312 (jar h_43 (jfr h_43 310 r1) (ixn (1 : Int32)))), vI (20 : Int32)]) (st := []) (k := 0) rfl rfl sX8_fits okX8_fits g_42 (one41.k g_42) rfl rfl) w (fun h_49 _ _ w => ?_)
                    refine jw_aload_n (pc' := 602) rfl rfl ?_
                    refine jw_aload_n (pc' := 603) rfl rfl ?_
                    refine jw_getR (pc' := 606) (F := 310) (t' := 215) rfl rfl rfl rfl rfl g_38 ?_
                    refine jw_iconst (pc' := 607) (x := (2 : Int32)) rfl rfl ?_
                    obtain ⟨g_52, w⟩ := w
                    obtain ⟨g_53, w⟩ := w
                    refine jw_aald (pc' := 608) (t' := 48) rfl rfl rfl rfl g_52 g_53.ix g_53.2 ?_
                    obtain ⟨g_54, w⟩ := w
                    refine jw_getI (pc' := 611) (F := 312) rfl rfl rfl rfl g_54 ?_
                    refine jw_bipush (pc' := 613) (x := (20 : Int32)) rfl rfl ?_
                    refine jw_cV (st := []) (sa := [vR 41 r0, vI (jfi h_49 312 (jar h_49 (jfr h_49 310 r1) (ixn (2 : Int32)))), vI (20 : Int32)]) okX8_fits rfl rfl rfl rfl rfl rfl (jstp_virtual (sa := [vI (jfi h_49 312 (jar h_49 (jfr h_49 310 r1) (ixn (2 : Int32)))), vI (20 : Int32)]) (st := []) (k := 0) rfl rfl sX8_fits okX8_fits g_42 (one41.k g_42) rfl rfl) w (fun h_55 _ _ w => ?_)
                    refine jw_bipush (pc' := 618) (x := (25 : Int32)) rfl rfl ?_
                    exact jw_ireturn rfl rfl (rfl) w
                  · rw [jsw_miss c_37]
                    replace w := w.2
                    rw [jsw_nil]
                    replace w := w c_1 c_2 c_7 c_12 c_17 c_22 c_27 c_32 c_37
                    refine jw_iconst (pc' := 620) (x := (0 : Int32)) rfl rfl ?_
                    refine jw_istore (pc' := 622) (ls' := [some (vR 41 r0), some (vR 48 r1), none, none, none, some (vI x5), none, some (vI x7), some (vI (0 : Int32))]) rfl (by decide) rfl ?_
                    refine jw_gen (ls' := [some (vR 41 r0), some (vR 48 r1), none, none, none, some (vI x5), none, none, some (vI (0 : Int32))]) (st' := []) (And.intro (Or.inl rfl) (And.intro (Or.inl rfl) (And.intro (Or.inl rfl) (And.intro (Or.inl rfl) (trivial))))) (trivial) ?_
                    obtain ⟨n, w⟩ := w
                    exact l_X8_function_622 n _ _ _ _ _ w
def W_X8_function_227 (D : JD) (d : Nat) (Q : JO → JH → Prop) (r0 : Nat) (r1 : Nat) (r3 : Nat) (h : JH) : Prop :=
  r3 ≠ 0 ∧ (cJ5_hashCode D d r3 h (pI D h (fun v_4 h_2 => (v_4 = (-1106363674 : Int32) → cJ5_equals D d r3 (jcs D 312) h_2 (pI D h_2 (fun v_8 h_6 => (v_8 = 0 → W_X8_function_477 D d Q r0 r1 (0 : Int32) (-1 : Int32) h_6) ∧ (¬ v_8 = 0 → W_X8_function_477 D d Q r0 r1 (0 : Int32) (5 : Int32) h_6)) (jth Q))) ∧ (v_4 = (-891529231 : Int32) → cJ5_equals D d r3 (jcs D 316) h_2 (pI D h_2 (fun v_13 h_11 => (v_13 = 0 → W_X8_function_477 D d Q r0 r1 (0 : Int32) (-1 : Int32) h_11) ∧ (¬ v_13 = 0 → W_X8_function_477 D d Q r0 r1 (0 : Int32) (8 : Int32) h_11)) (jth Q))) ∧ (v_4 = (96370 : Int32) → cJ5_equals D d r3 (jcs D 311) h_2 (pI D h_2 (fun v_18 h_16 => (v_18 = 0 → W_X8_function_477 D d Q r0 r1 (0 : Int32) (-1 : Int32) h_16) ∧ (¬ v_18 = 0 → W_X8_function_477 D d Q r0 r1 (0 : Int32) (2 : Int32) h_16)) (jth Q))) ∧ (v_4 = (107876 : Int32) → cJ5_equals D d r3 (jcs D 308) h_2 (pI D h_2 (fun v_23 h_21 => (v_23 = 0 → W_X8_function_477 D d Q r0 r1 (0 : Int32) (-1 : Int32) h_21) ∧ (¬ v_23 = 0 → W_X8_function_477 D d Q r0 r1 (0 : Int32) (4 : Int32) h_21)) (jth Q))) ∧ (v_4 = (108114 : Int32) → cJ5_equals D d r3 (jcs D 307) h_2 (pI D h_2 (fun v_28 h_26 => (v_28 = 0 → W_X8_function_477 D d Q r0 r1 (0 : Int32) (-1 : Int32) h_26) ∧ (¬ v_28 = 0 → W_X8_function_477 D d Q r0 r1 (0 : Int32) (3 : Int32) h_26)) (jth Q))) ∧ (v_4 = (114251 : Int32) → cJ5_equals D d r3 (jcs D 306) h_2 (pI D h_2 (fun v_33 h_31 => (v_33 = 0 → W_X8_function_477 D d Q r0 r1 (0 : Int32) (-1 : Int32) h_31) ∧ (¬ v_33 = 0 → W_X8_function_477 D d Q r0 r1 (0 : Int32) (1 : Int32) h_31)) (jth Q))) ∧ (v_4 = (94851343 : Int32) → cJ5_equals D d r3 (jcs D 305) h_2 (pI D h_2 (fun v_38 h_36 => (v_38 = 0 → W_X8_function_477 D d Q r0 r1 (0 : Int32) (-1 : Int32) h_36) ∧ (¬ v_38 = 0 → W_X8_function_477 D d Q r0 r1 (0 : Int32) (0 : Int32) h_36)) (jth Q))) ∧ (v_4 = (103164673 : Int32) → cJ5_equals D d r3 (jcs D 314) h_2 (pI D h_2 (fun v_43 h_41 => (v_43 = 0 → W_X8_function_477 D d Q r0 r1 (0 : Int32) (-1 : Int32) h_41) ∧ (¬ v_43 = 0 → W_X8_function_477 D d Q r0 r1 (0 : Int32) (7 : Int32) h_41)) (jth Q))) ∧ (v_4 = (111499426 : Int32) → cJ5_equals D d r3 (jcs D 313) h_2 (pI D h_2 (fun v_48 h_46 => (v_48 = 0 → W_X8_function_477 D d Q r0 r1 (0 : Int32) (-1 : Int32) h_46) ∧ (¬ v_48 = 0 → W_X8_function_477 D d Q r0 r1 (0 : Int32) (6 : Int32) h_46)) (jth Q))) ∧ (¬ v_4 = (-1106363674 : Int32) → ¬ v_4 = (-891529231 : Int32) → ¬ v_4 = (96370 : Int32) → ¬ v_4 = (107876 : Int32) → ¬ v_4 = (108114 : Int32) → ¬ v_4 = (114251 : Int32) → ¬ v_4 = (94851343 : Int32) → ¬ v_4 = (103164673 : Int32) → ¬ v_4 = (111499426 : Int32) → W_X8_function_477 D d Q r0 r1 (0 : Int32) (-1 : Int32) h_2)) (jth Q)))
theorem w_X8_function_227 {D : JD} {d : Nat} {Q : JO → JH → Prop} {r0 : Nat} {r1 : Nat} {r3 : Nat} {h : JH} (w : W_X8_function_227 D d Q r0 r1 r3 h) : JW D (d + 1) mX8_function 227 [some (vR 41 r0), some (vR 48 r1), none, some (vR 64 r3), none, none, none, none, none] [] h Q := by
  unfold W_X8_function_227 at w
  refine jw_iconst (pc' := 228) (x := (0 : Int32)) rfl rfl ?_
  refine jw_istore (pc' := 230) (ls' := [some (vR 41 r0), some (vR 48 r1), none, some (vR 64 r3), none, some (vI (0 : Int32)), none, none, none]) rfl (by decide) rfl ?_
  refine jw_aload_n (pc' := 231) rfl rfl ?_
  refine jw_astore (pc' := 233) (ls' := [some (vR 41 r0), some (vR 48 r1), none, some (vR 64 r3), none, some (vI (0 : Int32)), some (vR 64 r3), none, none]) rfl (by decide) rfl ?_
  refine jw_iconst (pc' := 234) (x := (-1 : Int32)) rfl rfl ?_
  refine jw_istore (pc' := 236) (ls' := [some (vR 41 r0), some (vR 48 r1), none, some (vR 64 r3), none, some (vI (0 : Int32)), some (vR 64 r3), some (vI (-1 : Int32)), none]) rfl (by decide) rfl ?_
  refine jw_aload (pc' := 238) rfl rfl ?_
  obtain ⟨g_1, w⟩ := w
  refine jw_cI (st := []) (sa := [vR 64 r3]) okJ5_hashCode rfl rfl rfl rfl rfl rfl (jstp_virtual (sa := []) (st := []) (k := 0) rfl rfl sJ5_hashCode okJ5_hashCode g_1 (one64.k g_1) rfl rfl) w (fun v_4 h_2 _ _ w => ?_)
  refine jw_lsw (cs := [((-1106363674 : Int32), 409), ((-891529231 : Int32), 462), ((96370 : Int32), 358), ((107876 : Int32), 392), ((108114 : Int32), 375), ((114251 : Int32), 341), ((94851343 : Int32), 324), ((103164673 : Int32), 444), ((111499426 : Int32), 426)]) (dt := 477) rfl (by decide +kernel) (by decide +kernel) ?_
  by_cases c_5 : v_4 = (-1106363674 : Int32)
  · rw [jsw_hit c_5]
    replace w := w.1 c_5
    refine jw_aload (pc' := 411) rfl rfl ?_
    refine jw_ldcwS (pc' := 414) rfl rfl rfl rfl ?_
    refine jw_cI (st := []) (sa := [vR 64 r3, vR 51 (jcs D 312)]) okJ5_equals rfl rfl rfl rfl rfl rfl (jstp_virtual (sa := [vR 51 (jcs D 312)]) (st := []) (k := 0) rfl rfl sJ5_equals okJ5_equals g_1 (one64.k g_1) rfl rfl) w (fun v_8 h_6 _ _ w => ?_)
    refine jw_if_eq (tgt := 477) (pc' := 420) rfl rfl (fun c_9 => ?_) (fun c_9 => ?_)
    · replace w := w.1 c_9
      refine jw_gen (ls' := [some (vR 41 r0), some (vR 48 r1), none, none, none, some (vI (0 : Int32)), none, some (vI (-1 : Int32)), none]) (st' := []) (And.intro (Or.inl rfl) (And.intro (Or.inl rfl) (And.intro (Or.inl rfl) (And.intro (Or.inl rfl) (trivial))))) (trivial) ?_
      exact w_X8_function_477 w
    · replace w := w.2 c_9
      refine jw_iconst (pc' := 421) (x := (5 : Int32)) rfl rfl ?_
      refine jw_istore (pc' := 423) (ls' := [some (vR 41 r0), some (vR 48 r1), none, some (vR 64 r3), none, some (vI (0 : Int32)), some (vR 64 r3), some (vI (5 : Int32)), none]) rfl (by decide) rfl ?_
      refine jw_goto (pc' := 477) rfl rfl ?_
      refine jw_gen (ls' := [some (vR 41 r0), some (vR 48 r1), none, none, none, some (vI (0 : Int32)), none, some (vI (5 : Int32)), none]) (st' := []) (And.intro (Or.inl rfl) (And.intro (Or.inl rfl) (And.intro (Or.inl rfl) (And.intro (Or.inl rfl) (trivial))))) (trivial) ?_
      exact w_X8_function_477 w
  · rw [jsw_miss c_5]
    replace w := w.2
    by_cases c_10 : v_4 = (-891529231 : Int32)
    · rw [jsw_hit c_10]
      replace w := w.1 c_10
      refine jw_aload (pc' := 464) rfl rfl ?_
      refine jw_ldcwS (pc' := 467) rfl rfl rfl rfl ?_
      refine jw_cI (st := []) (sa := [vR 64 r3, vR 51 (jcs D 316)]) okJ5_equals rfl rfl rfl rfl rfl rfl (jstp_virtual (sa := [vR 51 (jcs D 316)]) (st := []) (k := 0) rfl rfl sJ5_equals okJ5_equals g_1 (one64.k g_1) rfl rfl) w (fun v_13 h_11 _ _ w => ?_)
      refine jw_if_eq (tgt := 477) (pc' := 473) rfl rfl (fun c_14 => ?_) (fun c_14 => ?_)
      · replace w := w.1 c_14
        refine jw_gen (ls' := [some (vR 41 r0), some (vR 48 r1), none, none, none, some (vI (0 : Int32)), none, some (vI (-1 : Int32)), none]) (st' := []) (And.intro (Or.inl rfl) (And.intro (Or.inl rfl) (And.intro (Or.inl rfl) (And.intro (Or.inl rfl) (trivial))))) (trivial) ?_
        exact w_X8_function_477 w
      · replace w := w.2 c_14
        refine jw_bipush (pc' := 475) (x := (8 : Int32)) rfl rfl ?_
        refine jw_istore (pc' := 477) (ls' := [some (vR 41 r0), some (vR 48 r1), none, some (vR 64 r3), none, some (vI (0 : Int32)), some (vR 64 r3), some (vI (8 : Int32)), none]) rfl (by decide) rfl ?_
        refine jw_gen (ls' := [some (vR 41 r0), some (vR 48 r1), none, none, none, some (vI (0 : Int32)), none, some (vI (8 : Int32)), none]) (st' := []) (And.intro (Or.inl rfl) (And.intro (Or.inl rfl) (And.intro (Or.inl rfl) (And.intro (Or.inl rfl) (trivial))))) (trivial) ?_
        exact w_X8_function_477 w
    · rw [jsw_miss c_10]
      replace w := w.2
      by_cases c_15 : v_4 = (96370 : Int32)
      · rw [jsw_hit c_15]
        replace w := w.1 c_15
        refine jw_aload (pc' := 360) rfl rfl ?_
        refine jw_ldcwS (pc' := 363) rfl rfl rfl rfl ?_
        refine jw_cI (st := []) (sa := [vR 64 r3, vR 51 (jcs D 311)]) okJ5_equals rfl rfl rfl rfl rfl rfl (jstp_virtual (sa := [vR 51 (jcs D 311)]) (st := []) (k := 0) rfl rfl sJ5_equals okJ5_equals g_1 (one64.k g_1) rfl rfl) w (fun v_18 h_16 _ _ w => ?_)
        refine jw_if_eq (tgt := 477) (pc' := 369) rfl rfl (fun c_19 => ?_) (fun c_19 => ?_)
        · replace w := w.1 c_19
          refine jw_gen (ls' := [some (vR 41 r0), some (vR 48 r1), none, none, none, some (vI (0 : Int32)), none, some (vI (-1 : Int32)), none]) (st' := []) (And.intro (Or.inl rfl) (And.intro (Or.inl rfl) (And.intro (Or.inl rfl) (And.intro (Or.inl rfl) (trivial))))) (trivial) ?_
          exact w_X8_function_477 w
        · replace w := w.2 c_19
          refine jw_iconst (pc' := 370) (x := (2 : Int32)) rfl rfl ?_
          refine jw_istore (pc' := 372) (ls' := [some (vR 41 r0), some (vR 48 r1), none, some (vR 64 r3), none, some (vI (0 : Int32)), some (vR 64 r3), some (vI (2 : Int32)), none]) rfl (by decide) rfl ?_
          refine jw_goto (pc' := 477) rfl rfl ?_
          refine jw_gen (ls' := [some (vR 41 r0), some (vR 48 r1), none, none, none, some (vI (0 : Int32)), none, some (vI (2 : Int32)), none]) (st' := []) (And.intro (Or.inl rfl) (And.intro (Or.inl rfl) (And.intro (Or.inl rfl) (And.intro (Or.inl rfl) (trivial))))) (trivial) ?_
          exact w_X8_function_477 w
      · rw [jsw_miss c_15]
        replace w := w.2
        by_cases c_20 : v_4 = (107876 : Int32)
        · rw [jsw_hit c_20]
          replace w := w.1 c_20
          refine jw_aload (pc' := 394) rfl rfl ?_
          refine jw_ldcwS (pc' := 397) rfl rfl rfl rfl ?_
          refine jw_cI (st := []) (sa := [vR 64 r3, vR 51 (jcs D 308)]) okJ5_equals rfl rfl rfl rfl rfl rfl (jstp_virtual (sa := [vR 51 (jcs D 308)]) (st := []) (k := 0) rfl rfl sJ5_equals okJ5_equals g_1 (one64.k g_1) rfl rfl) w (fun v_23 h_21 _ _ w => ?_)
          refine jw_if_eq (tgt := 477) (pc' := 403) rfl rfl (fun c_24 => ?_) (fun c_24 => ?_)
          · replace w := w.1 c_24
            refine jw_gen (ls' := [some (vR 41 r0), some (vR 48 r1), none, none, none, some (vI (0 : Int32)), none, some (vI (-1 : Int32)), none]) (st' := []) (And.intro (Or.inl rfl) (And.intro (Or.inl rfl) (And.intro (Or.inl rfl) (And.intro (Or.inl rfl) (trivial))))) (trivial) ?_
            exact w_X8_function_477 w
          · replace w := w.2 c_24
            refine jw_iconst (pc' := 404) (x := (4 : Int32)) rfl rfl ?_
            refine jw_istore (pc' := 406) (ls' := [some (vR 41 r0), some (vR 48 r1), none, some (vR 64 r3), none, some (vI (0 : Int32)), some (vR 64 r3), some (vI (4 : Int32)), none]) rfl (by decide) rfl ?_
            refine jw_goto (pc' := 477) rfl rfl ?_
            refine jw_gen (ls' := [some (vR 41 r0), some (vR 48 r1), none, none, none, some (vI (0 : Int32)), none, some (vI (4 : Int32)), none]) (st' := []) (And.intro (Or.inl rfl) (And.intro (Or.inl rfl) (And.intro (Or.inl rfl) (And.intro (Or.inl rfl) (trivial))))) (trivial) ?_
            exact w_X8_function_477 w
        · rw [jsw_miss c_20]
          replace w := w.2
          by_cases c_25 : v_4 = (108114 : Int32)
          · rw [jsw_hit c_25]
            replace w := w.1 c_25
            refine jw_aload (pc' := 377) rfl rfl ?_
            refine jw_ldcwS (pc' := 380) rfl rfl rfl rfl ?_
            refine jw_cI (st := []) (sa := [vR 64 r3, vR 51 (jcs D 307)]) okJ5_equals rfl rfl rfl rfl rfl rfl (jstp_virtual (sa := [vR 51 (jcs D 307)]) (st := []) (k := 0) rfl rfl sJ5_equals okJ5_equals g_1 (one64.k g_1) rfl rfl) w (fun v_28 h_26 _ _ w => ?_)
            refine jw_if_eq (tgt := 477) (pc' := 386) rfl rfl (fun c_29 => ?_) (fun c_29 => ?_)
            · replace w := w.1 c_29
              refine jw_gen (ls' := [some (vR 41 r0), some (vR 48 r1), none, none, none, some (vI (0 : Int32)), none, some (vI (-1 : Int32)), none]) (st' := []) (And.intro (Or.inl rfl) (And.intro (Or.inl rfl) (And.intro (Or.inl rfl) (And.intro (Or.inl rfl) (trivial))))) (trivial) ?_
              exact w_X8_function_477 w
            · replace w := w.2 c_29
              refine jw_iconst (pc' := 387) (x := (3 : Int32)) rfl rfl ?_
              refine jw_istore (pc' := 389) (ls' := [some (vR 41 r0), some (vR 48 r1), none, some (vR 64 r3), none, some (vI (0 : Int32)), some (vR 64 r3), some (vI (3 : Int32)), none]) rfl (by decide) rfl ?_
              refine jw_goto (pc' := 477) rfl rfl ?_
              refine jw_gen (ls' := [some (vR 41 r0), some (vR 48 r1), none, none, none, some (vI (0 : Int32)), none, some (vI (3 : Int32)), none]) (st' := []) (And.intro (Or.inl rfl) (And.intro (Or.inl rfl) (And.intro (Or.inl rfl) (And.intro (Or.inl rfl) (trivial))))) (trivial) ?_
              exact w_X8_function_477 w
          · rw [jsw_miss c_25]
            replace w := w.2
            by_cases c_30 : v_4 = (114251 : Int32)
            · rw [jsw_hit c_30]
              replace w := w.1 c_30
              refine jw_aload (pc' := 343) rfl rfl ?_
              refine jw_ldcwS (pc' := 346) rfl rfl rfl rfl ?_
              refine jw_cI (st := []) (sa := [vR 64 r3, vR 51 (jcs D 306)]) okJ5_equals rfl rfl rfl rfl rfl rfl (jstp_virtual (sa := [vR 51 (jcs D 306)]) (st := []) (k := 0) rfl rfl sJ5_equals okJ5_equals g_1 (one64.k g_1) rfl rfl) w (fun v_33 h_31 _ _ w => ?_)
              refine jw_if_eq (tgt := 477) (pc' := 352) rfl rfl (fun c_34 => ?_) (fun c_34 => ?_)
              · replace w := w.1 c_34
                refine jw_gen (ls' := [some (vR 41 r0), some (vR 48 r1), none, none, none, some (vI (0 : Int32)), none, some (vI (-1 : Int32)), none]) (st' := []) (And.intro (Or.inl rfl) (And.intro (Or.inl rfl) (And.intro (Or.inl rfl) (And.intro (Or.inl rfl) (trivial))))) (trivial) ?_
                exact w_X8_function_477 w
              · replace w := w.2 c_34
                refine jw_iconst (pc' := 353) (x := (1 : Int32)) rfl rfl ?_
                refine jw_istore (pc' := 355) (ls' := [some (vR 41 r0), some (vR 48 r1), none, some (vR 64 r3), none, some (vI (0 : Int32)), some (vR 64 r3), some (vI (1 : Int32)), none]) rfl (by decide) rfl ?_
                refine jw_goto (pc' := 477) rfl rfl ?_
                refine jw_gen (ls' := [some (vR 41 r0), some (vR 48 r1), none, none, none, some (vI (0 : Int32)), none, some (vI (1 : Int32)), none]) (st' := []) (And.intro (Or.inl rfl) (And.intro (Or.inl rfl) (And.intro (Or.inl rfl) (And.intro (Or.inl rfl) (trivial))))) (trivial) ?_
                exact w_X8_function_477 w
            · rw [jsw_miss c_30]
              replace w := w.2
              by_cases c_35 : v_4 = (94851343 : Int32)
              · rw [jsw_hit c_35]
                replace w := w.1 c_35
                refine jw_aload (pc' := 326) rfl rfl ?_
                refine jw_ldcwS (pc' := 329) rfl rfl rfl rfl ?_
                refine jw_cI (st := []) (sa := [vR 64 r3, vR 51 (jcs D 305)]) okJ5_equals rfl rfl rfl rfl rfl rfl (jstp_virtual (sa := [vR 51 (jcs D 305)]) (st := []) (k := 0) rfl rfl sJ5_equals okJ5_equals g_1 (one64.k g_1) rfl rfl) w (fun v_38 h_36 _ _ w => ?_)
                refine jw_if_eq (tgt := 477) (pc' := 335) rfl rfl (fun c_39 => ?_) (fun c_39 => ?_)
                · replace w := w.1 c_39
                  refine jw_gen (ls' := [some (vR 41 r0), some (vR 48 r1), none, none, none, some (vI (0 : Int32)), none, some (vI (-1 : Int32)), none]) (st' := []) (And.intro (Or.inl rfl) (And.intro (Or.inl rfl) (And.intro (Or.inl rfl) (And.intro (Or.inl rfl) (trivial))))) (trivial) ?_
                  exact w_X8_function_477 w
                · replace w := w.2 c_39
                  refine jw_iconst (pc' := 336) (x := (0 : Int32)) rfl rfl ?_
                  refine jw_istore (pc' := 338) (ls' := [some (vR 41 r0), some (vR 48 r1), none, some (vR 64 r3), none, some (vI (0 : Int32)), some (vR 64 r3), some (vI (0 : Int32)), none]) rfl (by decide) rfl ?_
                  refine jw_goto (pc' := 477) rfl rfl ?_
                  refine jw_gen (ls' := [some (vR 41 r0), some (vR 48 r1), none, none, none, some (vI (0 : Int32)), none, some (vI (0 : Int32)), none]) (st' := []) (And.intro (Or.inl rfl) (And.intro (Or.inl rfl) (And.intro (Or.inl rfl) (And.intro (Or.inl rfl) (trivial))))) (trivial) ?_
                  exact w_X8_function_477 w
              · rw [jsw_miss c_35]
                replace w := w.2
                by_cases c_40 : v_4 = (103164673 : Int32)
                · rw [jsw_hit c_40]
                  replace w := w.1 c_40
                  refine jw_aload (pc' := 446) rfl rfl ?_
                  refine jw_ldcwS (pc' := 449) rfl rfl rfl rfl ?_
                  refine jw_cI (st := []) (sa := [vR 64 r3, vR 51 (jcs D 314)]) okJ5_equals rfl rfl rfl rfl rfl rfl (jstp_virtual (sa := [vR 51 (jcs D 314)]) (st := []) (k := 0) rfl rfl sJ5_equals okJ5_equals g_1 (one64.k g_1) rfl rfl) w (fun v_43 h_41 _ _ w => ?_)
                  refine jw_if_eq (tgt := 477) (pc' := 455) rfl rfl (fun c_44 => ?_) (fun c_44 => ?_)
                  · replace w := w.1 c_44
                    refine jw_gen (ls' := [some (vR 41 r0), some (vR 48 r1), none, none, none, some (vI (0 : Int32)), none, some (vI (-1 : Int32)), none]) (st' := []) (And.intro (Or.inl rfl) (And.intro (Or.inl rfl) (And.intro (Or.inl rfl) (And.intro (Or.inl rfl) (trivial))))) (trivial) ?_
                    exact w_X8_function_477 w
                  · replace w := w.2 c_44
                    refine jw_bipush (pc' := 457) (x := (7 : Int32)) rfl rfl ?_
                    refine jw_istore (pc' := 459) (ls' := [some (vR 41 r0), some (vR 48 r1), none, some (vR 64 r3), none, some (vI (0 : Int32)), some (vR 64 r3), some (vI (7 : Int32)), none]) rfl (by decide) rfl ?_
                    refine jw_goto (pc' := 477) rfl rfl ?_
                    refine jw_gen (ls' := [some (vR 41 r0), some (vR 48 r1), none, none, none, some (vI (0 : Int32)), none, some (vI (7 : Int32)), none]) (st' := []) (And.intro (Or.inl rfl) (And.intro (Or.inl rfl) (And.intro (Or.inl rfl) (And.intro (Or.inl rfl) (trivial))))) (trivial) ?_
                    exact w_X8_function_477 w
                · rw [jsw_miss c_40]
                  replace w := w.2
                  by_cases c_45 : v_4 = (111499426 : Int32)
                  · rw [jsw_hit c_45]
                    replace w := w.1 c_45
                    refine jw_aload (pc' := 428) rfl rfl ?_
                    refine jw_ldcwS (pc' := 431) rfl rfl rfl rfl ?_
                    refine jw_cI (st := []) (sa := [vR 64 r3, vR 51 (jcs D 313)]) okJ5_equals rfl rfl rfl rfl rfl rfl (jstp_virtual (sa := [vR 51 (jcs D 313)]) (st := []) (k := 0) rfl rfl sJ5_equals okJ5_equals g_1 (one64.k g_1) rfl rfl) w (fun v_48 h_46 _ _ w => ?_)
                    refine jw_if_eq (tgt := 477) (pc' := 437) rfl rfl (fun c_49 => ?_) (fun c_49 => ?_)
                    · replace w := w.1 c_49
                      refine jw_gen (ls' := [some (vR 41 r0), some (vR 48 r1), none, none, none, some (vI (0 : Int32)), none, some (vI (-1 : Int32)), none]) (st' := []) (And.intro (Or.inl rfl) (And.intro (Or.inl rfl) (And.intro (Or.inl rfl) (And.intro (Or.inl rfl) (trivial))))) (trivial) ?_
                      exact w_X8_function_477 w
                    · replace w := w.2 c_49
                      refine jw_bipush (pc' := 439) (x := (6 : Int32)) rfl rfl ?_
                      refine jw_istore (pc' := 441) (ls' := [some (vR 41 r0), some (vR 48 r1), none, some (vR 64 r3), none, some (vI (0 : Int32)), some (vR 64 r3), some (vI (6 : Int32)), none]) rfl (by decide) rfl ?_
                      refine jw_goto (pc' := 477) rfl rfl ?_
                      refine jw_gen (ls' := [some (vR 41 r0), some (vR 48 r1), none, none, none, some (vI (0 : Int32)), none, some (vI (6 : Int32)), none]) (st' := []) (And.intro (Or.inl rfl) (And.intro (Or.inl rfl) (And.intro (Or.inl rfl) (And.intro (Or.inl rfl) (trivial))))) (trivial) ?_
                      exact w_X8_function_477 w
                  · rw [jsw_miss c_45]
                    replace w := w.2
                    rw [jsw_nil]
                    replace w := w c_5 c_10 c_15 c_20 c_25 c_30 c_35 c_40 c_45
                    refine jw_gen (ls' := [some (vR 41 r0), some (vR 48 r1), none, none, none, some (vI (0 : Int32)), none, some (vI (-1 : Int32)), none]) (st' := []) (And.intro (Or.inl rfl) (And.intro (Or.inl rfl) (And.intro (Or.inl rfl) (And.intro (Or.inl rfl) (trivial))))) (trivial) ?_
                    exact w_X8_function_477 w
def W_X8_function_221 (D : JD) (d : Nat) (Q : JO → JH → Prop) (r0 : Nat) (r1 : Nat) (r3 : Nat) (q0 : Nat) (s1 : Int32) (h : JH) : Prop :=
  q0 ≠ 0 ∧ (cX8_must D d q0 s1 (jcs D 319) h (pV D h (fun h_2 => W_X8_function_227 D d Q r0 r1 r3 h_2) (jth Q)))
theorem w_X8_function_221 {D : JD} {d : Nat} {Q : JO → JH → Prop} {r0 : Nat} {r1 : Nat} {r3 : Nat} {q0 : Nat} {s1 : Int32} {h : JH} (w : W_X8_function_221 D d Q r0 r1 r3 q0 s1 h) : JW D (d + 1) mX8_function 221 [some (vR 41 r0), some (vR 48 r1), none, some (vR 64 r3), none, none, none, none, none] [vI s1, vR 41 q0] h Q := by
  unfold W_X8_function_221 at w
  refine jw_ldcwS (pc' := 224) rfl rfl rfl rfl ?_
  obtain ⟨g_1, w⟩ := w
  refine jw_cV (st := []) (sa := [vR 41 q0, vI s1, vR 51 (jcs D 319)]) okX8_must rfl rfl rfl rfl rfl rfl (jstp_virtual (sa := [vI s1, vR 51 (jcs D 319)]) (st := []) (k := 0) rfl rfl sX8_must okX8_must g_1 (one41.k g_1) rfl rfl) w (fun h_2 _ _ w => ?_)
  exact w_X8_function_227 w
def W_X8_function_220 (D : JD) (d : Nat) (Q : JO → JH → Prop) (r0 : Nat) (r1 : Nat) (r3 : Nat) (q0 : Nat) (h : JH) : Prop :=
  W_X8_function_221 D d Q r0 r1 r3 q0 (0 : Int32) h
theorem w_X8_function_220 {D : JD} {d : Nat} {Q : JO → JH → Prop} {r0 : Nat} {r1 : Nat} {r3 : Nat} {q0 : Nat} {h : JH} (w : W_X8_function_220 D d Q r0 r1 r3 q0 h) : JW D (d + 1) mX8_function 220 [some (vR 41 r0), some (vR 48 r1), none, some (vR 64 r3), none, none, none, none, none] [vR 41 q0] h Q := by
  unfold W_X8_function_220 at w
  refine jw_iconst (pc' := 221) (x := (0 : Int32)) rfl rfl ?_
  exact w_X8_function_221 w
def W_X8_function_194 (D : JD) (d : Nat) (Q : JO → JH → Prop) (r0 : Nat) (r1 : Nat) (r3 : Nat) (h : JH) : Prop :=
  cX8_isGather D d r1 h (pI D h (fun v_3 h_1 => (v_3 = 0 → W_X8_function_227 D d Q r0 r1 r3 h_1) ∧ (¬ v_3 = 0 → r0 ≠ 0 ∧ (((jfi h_1 201 r0) = 0 → W_X8_function_220 D d Q r0 r1 r3 r0 h_1) ∧ (¬ (jfi h_1 201 r0) = 0 → (¬ (jfi h_1 202 r0) = 0 → W_X8_function_220 D d Q r0 r1 r3 r0 h_1) ∧ ((jfi h_1 202 r0) = 0 → W_X8_function_221 D d Q r0 r1 r3 r0 (1 : Int32) h_1))))) (jth Q))
theorem w_X8_function_194 {D : JD} {d : Nat} {Q : JO → JH → Prop} {r0 : Nat} {r1 : Nat} {r3 : Nat} {h : JH} (w : W_X8_function_194 D d Q r0 r1 r3 h) : JW D (d + 1) mX8_function 194 [some (vR 41 r0), some (vR 48 r1), none, some (vR 64 r3), none, none, none, none, none] [] h Q := by
  unfold W_X8_function_194 at w
  refine jw_aload_n (pc' := 195) rfl rfl ?_
  refine jw_cI (st := []) (sa := [vR 48 r1]) okX8_isGather rfl rfl rfl rfl rfl rfl (jstp_static (sa := [vR 48 r1]) (st := []) rfl rfl sX8_isGather okX8_isGather rfl rfl) w (fun v_3 h_1 _ _ w => ?_)
  refine jw_if_eq (tgt := 227) (pc' := 201) rfl rfl (fun c_4 => ?_) (fun c_4 => ?_)
  · replace w := w.1 c_4
    exact w_X8_function_227 w
  · replace w := w.2 c_4
    refine jw_aload_n (pc' := 202) rfl rfl ?_
    refine jw_aload_n (pc' := 203) rfl rfl ?_
    obtain ⟨g_5, w⟩ := w
    refine jw_getI (pc' := 206) (F := 201) rfl rfl rfl rfl g_5 ?_
    refine jw_if_eq (tgt := 220) (pc' := 209) rfl rfl (fun c_6 => ?_) (fun c_6 => ?_)
    · replace w := w.1 c_6
      exact w_X8_function_220 w
    · replace w := w.2 c_6
      refine jw_aload_n (pc' := 210) rfl rfl ?_
      refine jw_getI (pc' := 213) (F := 202) rfl rfl rfl rfl g_5 ?_
      refine jw_if_ne (tgt := 220) (pc' := 216) rfl rfl (fun c_7 => ?_) (fun c_7 => ?_)
      · replace w := w.1 c_7
        exact w_X8_function_220 w
      · replace w := w.2 c_7
        refine jw_iconst (pc' := 217) (x := (1 : Int32)) rfl rfl ?_
        refine jw_goto (pc' := 221) rfl rfl ?_
        exact w_X8_function_221 w
def W_X8_function_188 (D : JD) (d : Nat) (Q : JO → JH → Prop) (r0 : Nat) (r1 : Nat) (r3 : Nat) (q0 : Nat) (s1 : Int32) (h : JH) : Prop :=
  q0 ≠ 0 ∧ (cX8_must D d q0 s1 (jcs D 318) h (pV D h (fun h_2 => W_X8_function_194 D d Q r0 r1 r3 h_2) (jth Q)))
theorem w_X8_function_188 {D : JD} {d : Nat} {Q : JO → JH → Prop} {r0 : Nat} {r1 : Nat} {r3 : Nat} {q0 : Nat} {s1 : Int32} {h : JH} (w : W_X8_function_188 D d Q r0 r1 r3 q0 s1 h) : JW D (d + 1) mX8_function 188 [some (vR 41 r0), some (vR 48 r1), none, some (vR 64 r3), none, none, none, none, none] [vI s1, vR 41 q0] h Q := by
  unfold W_X8_function_188 at w
  refine jw_ldcwS (pc' := 191) rfl rfl rfl rfl ?_
  obtain ⟨g_1, w⟩ := w
  refine jw_cV (st := []) (sa := [vR 41 q0, vI s1, vR 51 (jcs D 318)]) okX8_must rfl rfl rfl rfl rfl rfl (jstp_virtual (sa := [vI s1, vR 51 (jcs D 318)]) (st := []) (k := 0) rfl rfl sX8_must okX8_must g_1 (one41.k g_1) rfl rfl) w (fun h_2 _ _ w => ?_)
  exact w_X8_function_194 w
def W_X8_function_126 (D : JD) (d : Nat) (Q : JO → JH → Prop) (r0 : Nat) (r1 : Nat) (x2 : Int32) (r3 : Nat) (x4 : Int32) (q0 : Nat) (s1 : Int32) (h : JH) : Prop :=
  q0 ≠ 0 ∧ (cX8_must D d q0 s1 (jcs D 318) h (pV D h (fun h_2 => (x2 = 0 → (¬ x4 = 0 → r1 ≠ 0 ∧ ((¬ (jfi h_2 311 r1) = x4 → W_X8_function_188 D d Q r0 r1 r3 r0 (0 : Int32) h_2) ∧ ((jfi h_2 311 r1) = x4 → W_X8_function_188 D d Q r0 r1 r3 r0 (1 : Int32) h_2))) ∧ (x4 = 0 → r1 ≠ 0 ∧ (((jfi h_2 311 r1) ≤ 0 → W_X8_function_188 D d Q r0 r1 r3 r0 (0 : Int32) h_2) ∧ (¬ (jfi h_2 311 r1) ≤ 0 → W_X8_function_188 D d Q r0 r1 r3 r0 (1 : Int32) h_2)))) ∧ (¬ x2 = 0 → r3 ≠ 0 ∧ (cJ5_equals D d r3 (jcs D 305) h_2 (pI D h_2 (fun v_14 h_12 => r0 ≠ 0 ∧ (cX8_must D d r0 v_14 (jcs D 318) h_12 (pV D h_12 (fun h_16 => W_X8_function_194 D d Q r0 r1 r3 h_16) (jth Q)))) (jth Q))))) (jth Q)))
theorem w_X8_function_126 {D : JD} {d : Nat} {Q : JO → JH → Prop} {r0 : Nat} {r1 : Nat} {x2 : Int32} {r3 : Nat} {x4 : Int32} {q0 : Nat} {s1 : Int32} {h : JH} (w : W_X8_function_126 D d Q r0 r1 x2 r3 x4 q0 s1 h) : JW D (d + 1) mX8_function 126 [some (vR 41 r0), some (vR 48 r1), some (vI x2), some (vR 64 r3), some (vI x4), none, none, none, none] [vI s1, vR 41 q0] h Q := by
  unfold W_X8_function_126 at w
  refine jw_ldcwS (pc' := 129) rfl rfl rfl rfl ?_
  obtain ⟨g_1, w⟩ := w
  refine jw_cV (st := []) (sa := [vR 41 q0, vI s1, vR 51 (jcs D 318)]) okX8_must rfl rfl rfl rfl rfl rfl (jstp_virtual (sa := [vI s1, vR 51 (jcs D 318)]) (st := []) (k := 0) rfl rfl sX8_must okX8_must g_1 (one41.k g_1) rfl rfl) w (fun h_2 _ _ w => ?_)
  refine jw_iload_n (pc' := 133) rfl rfl ?_
  refine jw_if_eq (tgt := 153) (pc' := 136) rfl rfl (fun c_5 => ?_) (fun c_5 => ?_)
  · replace w := w.1 c_5
    refine jw_aload_n (pc' := 154) rfl rfl ?_
    refine jw_iload (pc' := 156) rfl rfl ?_
    refine jw_if_ne (tgt := 174) (pc' := 159) rfl rfl (fun c_6 => ?_) (fun c_6 => ?_)
    · replace w := w.1 c_6
      refine jw_aload_n (pc' := 175) rfl rfl ?_
      obtain ⟨g_7, w⟩ := w
      refine jw_getI (pc' := 178) (F := 311) rfl rfl rfl rfl g_7 ?_
      refine jw_iload (pc' := 180) rfl rfl ?_
      refine jw_icmp_ne (tgt := 187) (pc' := 183) rfl rfl (fun c_8 => ?_) (fun c_8 => ?_)
      · replace w := w.1 c_8
        refine jw_iconst (pc' := 188) (x := (0 : Int32)) rfl rfl ?_
        refine jw_gen (ls' := [some (vR 41 r0), some (vR 48 r1), none, some (vR 64 r3), none, none, none, none, none]) (st' := [vI (0 : Int32), vR 41 r0]) (And.intro (Or.inl rfl) (And.intro (Or.inl rfl) (And.intro (Or.inl rfl) (trivial)))) (And.intro (Or.inl rfl) (And.intro (Or.inl rfl) (trivial))) ?_
        exact w_X8_function_188 w
      · replace w := w.2 c_8
        refine jw_iconst (pc' := 184) (x := (1 : Int32)) rfl rfl ?_
        refine jw_goto (pc' := 188) rfl rfl ?_
        refine jw_gen (ls' := [some (vR 41 r0), some (vR 48 r1), none, some (vR 64 r3), none, none, none, none, none]) (st' := [vI (1 : Int32), vR 41 r0]) (And.intro (Or.inl rfl) (And.intro (Or.inl rfl) (And.intro (Or.inl rfl) (trivial)))) (And.intro (Or.inl rfl) (And.intro (Or.inl rfl) (trivial))) ?_
        exact w_X8_function_188 w
    · replace w := w.2 c_6
      refine jw_aload_n (pc' := 160) rfl rfl ?_
      obtain ⟨g_9, w⟩ := w
      refine jw_getI (pc' := 163) (F := 311) rfl rfl rfl rfl g_9 ?_
      refine jw_if_le (tgt := 170) (pc' := 166) rfl rfl (fun c_10 => ?_) (fun c_10 => ?_)
      · replace w := w.1 c_10
        refine jw_iconst (pc' := 171) (x := (0 : Int32)) rfl rfl ?_
        refine jw_goto (pc' := 188) rfl rfl ?_
        refine jw_gen (ls' := [some (vR 41 r0), some (vR 48 r1), none, some (vR 64 r3), none, none, none, none, none]) (st' := [vI (0 : Int32), vR 41 r0]) (And.intro (Or.inl rfl) (And.intro (Or.inl rfl) (And.intro (Or.inl rfl) (trivial)))) (And.intro (Or.inl rfl) (And.intro (Or.inl rfl) (trivial))) ?_
        exact w_X8_function_188 w
      · replace w := w.2 c_10
        refine jw_iconst (pc' := 167) (x := (1 : Int32)) rfl rfl ?_
        refine jw_goto (pc' := 188) rfl rfl ?_
        refine jw_gen (ls' := [some (vR 41 r0), some (vR 48 r1), none, some (vR 64 r3), none, none, none, none, none]) (st' := [vI (1 : Int32), vR 41 r0]) (And.intro (Or.inl rfl) (And.intro (Or.inl rfl) (And.intro (Or.inl rfl) (trivial)))) (And.intro (Or.inl rfl) (And.intro (Or.inl rfl) (trivial))) ?_
        exact w_X8_function_188 w
  · replace w := w.2 c_5
    refine jw_aload_n (pc' := 137) rfl rfl ?_
    refine jw_aload_n (pc' := 138) rfl rfl ?_
    refine jw_ldcwS (pc' := 141) rfl rfl rfl rfl ?_
    obtain ⟨g_11, w⟩ := w
    refine jw_cI (st := [vR 41 r0]) (sa := [vR 64 r3, vR 51 (jcs D 305)]) okJ5_equals rfl rfl rfl rfl rfl rfl (jstp_virtual (sa := [vR 51 (jcs D 305)]) (st := [vR 41 r0]) (k := 0) rfl rfl sJ5_equals okJ5_equals g_11 (one64.k g_11) rfl rfl) w (fun v_14 h_12 _ _ w => ?_)
    refine jw_ldcwS (pc' := 147) rfl rfl rfl rfl ?_
    obtain ⟨g_15, w⟩ := w
    refine jw_cV (st := []) (sa := [vR 41 r0, vI v_14, vR 51 (jcs D 318)]) okX8_must rfl rfl rfl rfl rfl rfl (jstp_virtual (sa := [vI v_14, vR 51 (jcs D 318)]) (st := []) (k := 0) rfl rfl sX8_must okX8_must g_15 (one41.k g_15) rfl rfl) w (fun h_16 _ _ w => ?_)
    refine jw_goto (pc' := 194) rfl rfl ?_
    refine jw_gen (ls' := [some (vR 41 r0), some (vR 48 r1), none, some (vR 64 r3), none, none, none, none, none]) (st' := []) (And.intro (Or.inl rfl) (And.intro (Or.inl rfl) (And.intro (Or.inl rfl) (trivial)))) (trivial) ?_
    exact w_X8_function_194 w
def W_X8_function_113 (D : JD) (d : Nat) (Q : JO → JH → Prop) (r0 : Nat) (r1 : Nat) (x2 : Int32) (r3 : Nat) (s0 : Int32) (h : JH) : Prop :=
  (s0 < 0 → W_X8_function_126 D d Q r0 r1 x2 r3 s0 r0 (0 : Int32) h) ∧ (¬ s0 < 0 → W_X8_function_126 D d Q r0 r1 x2 r3 s0 r0 (1 : Int32) h)
theorem w_X8_function_113 {D : JD} {d : Nat} {Q : JO → JH → Prop} {r0 : Nat} {r1 : Nat} {x2 : Int32} {r3 : Nat} {s0 : Int32} {h : JH} (w : W_X8_function_113 D d Q r0 r1 x2 r3 s0 h) : JW D (d + 1) mX8_function 113 [some (vR 41 r0), some (vR 48 r1), some (vI x2), some (vR 64 r3), none, none, none, none, none] [vI s0] h Q := by
  unfold W_X8_function_113 at w
  refine jw_istore (pc' := 115) (ls' := [some (vR 41 r0), some (vR 48 r1), some (vI x2), some (vR 64 r3), some (vI s0), none, none, none, none]) rfl (by decide) rfl ?_
  refine jw_aload_n (pc' := 116) rfl rfl ?_
  refine jw_iload (pc' := 118) rfl rfl ?_
  refine jw_if_lt (tgt := 125) (pc' := 121) rfl rfl (fun c_1 => ?_) (fun c_1 => ?_)
  · replace w := w.1 c_1
    refine jw_iconst (pc' := 126) (x := (0 : Int32)) rfl rfl ?_
    exact w_X8_function_126 w
  · replace w := w.2 c_1
    refine jw_iconst (pc' := 122) (x := (1 : Int32)) rfl rfl ?_
    refine jw_goto (pc' := 126) rfl rfl ?_
    exact w_X8_function_126 w
def W_X8_function_66 (D : JD) (d : Nat) (Q : JO → JH → Prop) (r0 : Nat) (r1 : Nat) (x2 : Int32) (r3 : Nat) (h : JH) : Prop :=
  W_X8_function_113 D d Q r0 r1 x2 r3 (1 : Int32) h
theorem w_X8_function_66 {D : JD} {d : Nat} {Q : JO → JH → Prop} {r0 : Nat} {r1 : Nat} {x2 : Int32} {r3 : Nat} {h : JH} (w : W_X8_function_66 D d Q r0 r1 x2 r3 h) : JW D (d + 1) mX8_function 66 [some (vR 41 r0), some (vR 48 r1), some (vI x2), some (vR 64 r3), none, none, none, none, none] [] h Q := by
  unfold W_X8_function_66 at w
  refine jw_iconst (pc' := 67) (x := (1 : Int32)) rfl rfl ?_
  refine jw_goto (pc' := 113) rfl rfl ?_
  exact w_X8_function_113 w
def W_X8_function_13 (D : JD) (d : Nat) (Q : JO → JH → Prop) (r0 : Nat) (r1 : Nat) (s0 : Int32) (h : JH) : Prop :=
  r1 ≠ 0 ∧ ((jfr h 307 r1) ≠ 0 ∧ (cJ5_equals D d (jfr h 307 r1) (jcs D 311) h (pI D h (fun v_5 h_3 => (¬ v_5 = 0 → W_X8_function_66 D d Q r0 r1 s0 (jfr h 307 r1) h_3) ∧ (v_5 = 0 → cJ5_equals D d (jfr h 307 r1) (jcs D 312) h_3 (pI D h_3 (fun v_9 h_7 => (¬ v_9 = 0 → W_X8_function_66 D d Q r0 r1 s0 (jfr h 307 r1) h_7) ∧ (v_9 = 0 → cJ5_equals D d (jfr h 307 r1) (jcs D 313) h_7 (pI D h_7 (fun v_13 h_11 => (¬ v_13 = 0 → W_X8_function_66 D d Q r0 r1 s0 (jfr h 307 r1) h_11) ∧ (v_13 = 0 → cJ5_equals D d (jfr h 307 r1) (jcs D 314) h_11 (pI D h_11 (fun v_17 h_15 => (¬ v_17 = 0 → W_X8_function_66 D d Q r0 r1 s0 (jfr h 307 r1) h_15) ∧ (v_17 = 0 → cX8_isGather D d r1 h_15 (pI D h_15 (fun v_21 h_19 => (v_21 = 0 → cJ5_equals D d (jfr h 307 r1) (jcs D 315) h_19 (pI D h_19 (fun v_25 h_23 => (v_25 = 0 → cJ5_equals D d (jfr h 307 r1) (jcs D 316) h_23 (pI D h_23 (fun v_29 h_27 => (v_29 = 0 → cJ5_equals D d (jfr h 307 r1) (jcs D 317) h_27 (pI D h_27 (fun v_33 h_31 => (v_33 = 0 → W_X8_function_113 D d Q r0 r1 s0 (jfr h 307 r1) (-1 : Int32) h_31) ∧ (¬ v_33 = 0 → W_X8_function_113 D d Q r0 r1 s0 (jfr h 307 r1) (0 : Int32) h_31)) (jth Q))) ∧ (¬ v_29 = 0 → W_X8_function_113 D d Q r0 r1 s0 (jfr h 307 r1) (3 : Int32) h_27)) (jth Q))) ∧ (¬ v_25 = 0 → W_X8_function_113 D d Q r0 r1 s0 (jfr h 307 r1) (2 : Int32) h_23)) (jth Q))) ∧ (¬ v_21 = 0 → W_X8_function_66 D d Q r0 r1 s0 (jfr h 307 r1) h_19)) (jth Q)))) (jth Q)))) (jth Q)))) (jth Q)))) (jth Q))))
theorem w_X8_function_13 {D : JD} {d : Nat} {Q : JO → JH → Prop} {r0 : Nat} {r1 : Nat} {s0 : Int32} {h : JH} (w : W_X8_function_13 D d Q r0 r1 s0 h) : JW D (d + 1) mX8_function 13 [some (vR 41 r0), some (vR 48 r1), none, none, none, none, none, none, none] [vI s0] h Q := by
  unfold W_X8_function_13 at w
  refine jw_istore_n (pc' := 14) (ls' := [some (vR 41 r0), some (vR 48 r1), some (vI s0), none, none, none, none, none, none]) rfl (by decide) rfl ?_
  refine jw_aload_n (pc' := 15) rfl rfl ?_
  obtain ⟨g_1, w⟩ := w
  refine jw_getR (pc' := 18) (F := 307) (t' := 64) rfl rfl rfl rfl rfl g_1 ?_
  refine jw_astore_n (pc' := 19) (ls' := [some (vR 41 r0), some (vR 48 r1), some (vI s0), some (vR 64 (jfr h 307 r1)), none, none, none, none, none]) rfl (by decide) rfl ?_
  refine jw_aload_n (pc' := 20) rfl rfl ?_
  refine jw_ldcwS (pc' := 23) rfl rfl rfl rfl ?_
  obtain ⟨g_2, w⟩ := w
  refine jw_cI (st := []) (sa := [vR 64 (jfr h 307 r1), vR 51 (jcs D 311)]) okJ5_equals rfl rfl rfl rfl rfl rfl (jstp_virtual (sa := [vR 51 (jcs D 311)]) (st := []) (k := 0) rfl rfl sJ5_equals okJ5_equals g_2 (one64.k g_2) rfl rfl) w (fun v_5 h_3 _ _ w => ?_)
  refine jw_if_ne (tgt := 66) (pc' := 29) rfl rfl (fun c_6 => ?_) (fun c_6 => ?_)
  · replace w := w.1 c_6
    exact w_X8_function_66 w
  · replace w := w.2 c_6
    refine jw_aload_n (pc' := 30) rfl rfl ?_
    refine jw_ldcwS (pc' := 33) rfl rfl rfl rfl ?_
    refine jw_cI (st := []) (sa := [vR 64 (jfr h 307 r1), vR 51 (jcs D 312)]) okJ5_equals rfl rfl rfl rfl rfl rfl (jstp_virtual (sa := [vR 51 (jcs D 312)]) (st := []) (k := 0) rfl rfl sJ5_equals okJ5_equals g_2 (one64.k g_2) rfl rfl) w (fun v_9 h_7 _ _ w => ?_)
    refine jw_if_ne (tgt := 66) (pc' := 39) rfl rfl (fun c_10 => ?_) (fun c_10 => ?_)
    · replace w := w.1 c_10
      exact w_X8_function_66 w
    · replace w := w.2 c_10
      refine jw_aload_n (pc' := 40) rfl rfl ?_
      refine jw_ldcwS (pc' := 43) rfl rfl rfl rfl ?_
      refine jw_cI (st := []) (sa := [vR 64 (jfr h 307 r1), vR 51 (jcs D 313)]) okJ5_equals rfl rfl rfl rfl rfl rfl (jstp_virtual (sa := [vR 51 (jcs D 313)]) (st := []) (k := 0) rfl rfl sJ5_equals okJ5_equals g_2 (one64.k g_2) rfl rfl) w (fun v_13 h_11 _ _ w => ?_)
      refine jw_if_ne (tgt := 66) (pc' := 49) rfl rfl (fun c_14 => ?_) (fun c_14 => ?_)
      · replace w := w.1 c_14
        exact w_X8_function_66 w
      · replace w := w.2 c_14
        refine jw_aload_n (pc' := 50) rfl rfl ?_
        refine jw_ldcwS (pc' := 53) rfl rfl rfl rfl ?_
        refine jw_cI (st := []) (sa := [vR 64 (jfr h 307 r1), vR 51 (jcs D 314)]) okJ5_equals rfl rfl rfl rfl rfl rfl (jstp_virtual (sa := [vR 51 (jcs D 314)]) (st := []) (k := 0) rfl rfl sJ5_equals okJ5_equals g_2 (one64.k g_2) rfl rfl) w (fun v_17 h_15 _ _ w => ?_)
        refine jw_if_ne (tgt := 66) (pc' := 59) rfl rfl (fun c_18 => ?_) (fun c_18 => ?_)
        · replace w := w.1 c_18
          exact w_X8_function_66 w
        · replace w := w.2 c_18
          refine jw_aload_n (pc' := 60) rfl rfl ?_
          refine jw_cI (st := []) (sa := [vR 48 r1]) okX8_isGather rfl rfl rfl rfl rfl rfl (jstp_static (sa := [vR 48 r1]) (st := []) rfl rfl sX8_isGather okX8_isGather rfl rfl) w (fun v_21 h_19 _ _ w => ?_)
          refine jw_if_eq (tgt := 70) (pc' := 66) rfl rfl (fun c_22 => ?_) (fun c_22 => ?_)
          · replace w := w.1 c_22
            refine jw_aload_n (pc' := 71) rfl rfl ?_
            refine jw_ldcwS (pc' := 74) rfl rfl rfl rfl ?_
            refine jw_cI (st := []) (sa := [vR 64 (jfr h 307 r1), vR 51 (jcs D 315)]) okJ5_equals rfl rfl rfl rfl rfl rfl (jstp_virtual (sa := [vR 51 (jcs D 315)]) (st := []) (k := 0) rfl rfl sJ5_equals okJ5_equals g_2 (one64.k g_2) rfl rfl) w (fun v_25 h_23 _ _ w => ?_)
            refine jw_if_eq (tgt := 84) (pc' := 80) rfl rfl (fun c_26 => ?_) (fun c_26 => ?_)
            · replace w := w.1 c_26
              refine jw_aload_n (pc' := 85) rfl rfl ?_
              refine jw_ldcwS (pc' := 88) rfl rfl rfl rfl ?_
              refine jw_cI (st := []) (sa := [vR 64 (jfr h 307 r1), vR 51 (jcs D 316)]) okJ5_equals rfl rfl rfl rfl rfl rfl (jstp_virtual (sa := [vR 51 (jcs D 316)]) (st := []) (k := 0) rfl rfl sJ5_equals okJ5_equals g_2 (one64.k g_2) rfl rfl) w (fun v_29 h_27 _ _ w => ?_)
              refine jw_if_eq (tgt := 98) (pc' := 94) rfl rfl (fun c_30 => ?_) (fun c_30 => ?_)
              · replace w := w.1 c_30
                refine jw_aload_n (pc' := 99) rfl rfl ?_
                refine jw_ldcwS (pc' := 102) rfl rfl rfl rfl ?_
                refine jw_cI (st := []) (sa := [vR 64 (jfr h 307 r1), vR 51 (jcs D 317)]) okJ5_equals rfl rfl rfl rfl rfl rfl (jstp_virtual (sa := [vR 51 (jcs D 317)]) (st := []) (k := 0) rfl rfl sJ5_equals okJ5_equals g_2 (one64.k g_2) rfl rfl) w (fun v_33 h_31 _ _ w => ?_)
                refine jw_if_eq (tgt := 112) (pc' := 108) rfl rfl (fun c_34 => ?_) (fun c_34 => ?_)
                · replace w := w.1 c_34
                  refine jw_iconst (pc' := 113) (x := (-1 : Int32)) rfl rfl ?_
                  exact w_X8_function_113 w
                · replace w := w.2 c_34
                  refine jw_iconst (pc' := 109) (x := (0 : Int32)) rfl rfl ?_
                  refine jw_goto (pc' := 113) rfl rfl ?_
                  exact w_X8_function_113 w
              · replace w := w.2 c_30
                refine jw_iconst (pc' := 95) (x := (3 : Int32)) rfl rfl ?_
                refine jw_goto (pc' := 113) rfl rfl ?_
                exact w_X8_function_113 w
            · replace w := w.2 c_26
              refine jw_iconst (pc' := 81) (x := (2 : Int32)) rfl rfl ?_
              refine jw_goto (pc' := 113) rfl rfl ?_
              exact w_X8_function_113 w
          · replace w := w.2 c_22
            exact w_X8_function_66 w
def W_X8_function_0 (D : JD) (d : Nat) (Q : JO → JH → Prop) (r0 : Nat) (r1 : Nat) (h : JH) : Prop :=
  r1 ≠ 0 ∧ ((¬ (jfi h 306 r1) = (1 : Int32) → W_X8_function_13 D d Q r0 r1 (0 : Int32) h) ∧ ((jfi h 306 r1) = (1 : Int32) → W_X8_function_13 D d Q r0 r1 (1 : Int32) h))
theorem w_X8_function_0 {D : JD} {d : Nat} {Q : JO → JH → Prop} {r0 : Nat} {r1 : Nat} {h : JH} (w : W_X8_function_0 D d Q r0 r1 h) : JW D (d + 1) mX8_function 0 [some (vR 41 r0), some (vR 48 r1), none, none, none, none, none, none, none] [] h Q := by
  unfold W_X8_function_0 at w
  refine jw_aload_n (pc' := 1) rfl rfl ?_
  obtain ⟨g_1, w⟩ := w
  refine jw_getI (pc' := 4) (F := 306) rfl rfl rfl rfl g_1 ?_
  refine jw_iconst (pc' := 5) (x := (1 : Int32)) rfl rfl ?_
  refine jw_icmp_ne (tgt := 12) (pc' := 8) rfl rfl (fun c_2 => ?_) (fun c_2 => ?_)
  · replace w := w.1 c_2
    refine jw_iconst (pc' := 13) (x := (0 : Int32)) rfl rfl ?_
    exact w_X8_function_13 w
  · replace w := w.2 c_2
    refine jw_iconst (pc' := 9) (x := (1 : Int32)) rfl rfl ?_
    refine jw_goto (pc' := 13) rfl rfl ?_
    exact w_X8_function_13 w
def T_X8_function (D : JD) (d : Nat) (Q : JO → JH → Prop) (r0 : Nat) (r1 : Nat) (h : JH) : Prop := W_X8_function_0 D d Q r0 r1 h
theorem t_X8_function {D : JD} {d : Nat} {Q : JO → JH → Prop} {r0 : Nat} {r1 : Nat} {h : JH} (w : T_X8_function D d Q r0 r1 h) : cX8_function D (d + 1) r0 r1 h Q := by
  unfold T_X8_function at w
  unfold cX8_function
  exact w_X8_function_0 w
def W_X8_both_2_3 (D : JD) (d : Nat) (Q : JO → JH → Prop) (K3 : Nat → Nat → Int32 → Int32 → Int32 → JH → Prop) (r0 : Nat) (r1 : Nat) (x2 : Int32) (x3 : Int32) (x4 : Int32) (h : JH) : Prop :=
  r1 ≠ 0 ∧ (((jfi h 311 r1) ≤ x4 → Q (.inl (some (vI x3))) h) ∧ (¬ (jfi h 311 r1) ≤ x4 → (jfr h 310 r1) ≠ 0 ∧ jin x4 (jln h (jfr h 310 r1)) ∧ ((jar h (jfr h 310 r1) (ixn x4)) ≠ 0 ∧ (r0 ≠ 0 ∧ (cX8_fits D d r0 (jfi h 312 (jar h (jfr h 310 r1) (ixn x4))) x2 h (pV D h (fun h_7 => K3 r0 r1 x2 x3 (x4 + (1 : Int32)) h_7) (jth Q)))))))
theorem w_X8_both_2_3 {D : JD} {d : Nat} {Q : JO → JH → Prop} {K3 : Nat → Nat → Int32 → Int32 → Int32 → JH → Prop} {r0 : Nat} {r1 : Nat} {x2 : Int32} {x3 : Int32} {x4 : Int32} {h : JH} (hK3 : ∀ (r0 : Nat) (r1 : Nat) (x2 : Int32) (x3 : Int32) (x4 : Int32) (h : JH), K3 r0 r1 x2 x3 x4 h → JW D (d + 1) mX8_both_2 3 [some (vR 41 r0), some (vR 48 r1), some (vI x2), some (vI x3), some (vI x4)] [] h Q) (w : W_X8_both_2_3 D d Q K3 r0 r1 x2 x3 x4 h) : JW D (d + 1) mX8_both_2 3 [some (vR 41 r0), some (vR 48 r1), some (vI x2), some (vI x3), some (vI x4)] [] h Q := by
  unfold W_X8_both_2_3 at w
  refine jw_iload (pc' := 5) rfl rfl ?_
  refine jw_aload_n (pc' := 6) rfl rfl ?_
  obtain ⟨g_1, w⟩ := w
  refine jw_getI (pc' := 9) (F := 311) rfl rfl rfl rfl g_1 ?_
  refine jw_icmp_ge (tgt := 33) (pc' := 12) rfl rfl (fun c_2 => ?_) (fun c_2 => ?_)
  · replace w := w.1 c_2
    refine jw_iload_n (pc' := 34) rfl rfl ?_
    exact jw_ireturn rfl rfl (rfl) w
  · replace w := w.2 c_2
    refine jw_aload_n (pc' := 13) rfl rfl ?_
    refine jw_aload_n (pc' := 14) rfl rfl ?_
    refine jw_getR (pc' := 17) (F := 310) (t' := 215) rfl rfl rfl rfl rfl g_1 ?_
    refine jw_iload (pc' := 19) rfl rfl ?_
    obtain ⟨g_3, w⟩ := w
    obtain ⟨g_4, w⟩ := w
    refine jw_aald (pc' := 20) (t' := 48) rfl rfl rfl rfl g_3 g_4.ix g_4.2 ?_
    obtain ⟨g_5, w⟩ := w
    refine jw_getI (pc' := 23) (F := 312) rfl rfl rfl rfl g_5 ?_
    refine jw_iload_n (pc' := 24) rfl rfl ?_
    obtain ⟨g_6, w⟩ := w
    refine jw_cV (st := []) (sa := [vR 41 r0, vI (jfi h 312 (jar h (jfr h 310 r1) (ixn x4))), vI x2]) okX8_fits rfl rfl rfl rfl rfl rfl (jstp_virtual (sa := [vI (jfi h 312 (jar h (jfr h 310 r1) (ixn x4))), vI x2]) (st := []) (k := 0) rfl rfl sX8_fits okX8_fits g_6 (one41.k g_6) rfl rfl) w (fun h_7 _ _ w => ?_)
    refine jw_iinc (pc' := 30) (y := x4 + (1 : Int32)) (ls' := [some (vR 41 r0), some (vR 48 r1), some (vI x2), some (vI x3), some (vI (x4 + (1 : Int32)))]) rfl (by decide) rfl rfl rfl ?_
    refine jw_goto (pc' := 3) rfl rfl ?_
    exact hK3 _ _ _ _ _ _ w
def L_X8_both_2_3 (D : JD) (d : Nat) (Q : JO → JH → Prop) : Nat → Nat → Nat → Int32 → Int32 → Int32 → JH → Prop
  | 0 => fun _ _ _ _ _ _ => False
  | n + 1 => fun r0 r1 x2 x3 x4 h => W_X8_both_2_3 D d Q (L_X8_both_2_3 D d Q n) r0 r1 x2 x3 x4 h
theorem l_X8_both_2_3 {D : JD} {d : Nat} {Q : JO → JH → Prop} : ∀ (n : Nat) (r0 : Nat) (r1 : Nat) (x2 : Int32) (x3 : Int32) (x4 : Int32) (h : JH), L_X8_both_2_3 D d Q n r0 r1 x2 x3 x4 h → JW D (d + 1) mX8_both_2 3 [some (vR 41 r0), some (vR 48 r1), some (vI x2), some (vI x3), some (vI x4)] [] h Q := by
  intro n
  induction n with
  | zero => intro _ _ _ _ _ _ w; exact w.elim
  | succ n ih => intro _ _ _ _ _ h w; exact w_X8_both_2_3 ih w
def W_X8_both_2_0 (D : JD) (d : Nat) (Q : JO → JH → Prop) (r0 : Nat) (r1 : Nat) (x2 : Int32) (x3 : Int32) (h : JH) : Prop :=
  ∃ n, L_X8_both_2_3 D d Q n r0 r1 x2 x3 (0 : Int32) h
theorem w_X8_both_2_0 {D : JD} {d : Nat} {Q : JO → JH → Prop} {r0 : Nat} {r1 : Nat} {x2 : Int32} {x3 : Int32} {h : JH} (w : W_X8_both_2_0 D d Q r0 r1 x2 x3 h) : JW D (d + 1) mX8_both_2 0 [some (vR 41 r0), some (vR 48 r1), some (vI x2), some (vI x3), none] [] h Q := by
  unfold W_X8_both_2_0 at w
  refine jw_iconst (pc' := 1) (x := (0 : Int32)) rfl rfl ?_
  refine jw_istore (pc' := 3) (ls' := [some (vR 41 r0), some (vR 48 r1), some (vI x2), some (vI x3), some (vI (0 : Int32))]) rfl (by decide) rfl ?_
  obtain ⟨n, w⟩ := w
  exact l_X8_both_2_3 n _ _ _ _ _ _ w
def T_X8_both_2 (D : JD) (d : Nat) (Q : JO → JH → Prop) (r0 : Nat) (r1 : Nat) (x2 : Int32) (x3 : Int32) (h : JH) : Prop := W_X8_both_2_0 D d Q r0 r1 x2 x3 h
theorem t_X8_both_2 {D : JD} {d : Nat} {Q : JO → JH → Prop} {r0 : Nat} {r1 : Nat} {x2 : Int32} {x3 : Int32} {h : JH} (w : T_X8_both_2 D d Q r0 r1 x2 x3 h) : cX8_both_2 D (d + 1) r0 r1 x2 x3 h Q := by
  unfold T_X8_both_2 at w
  unfold cX8_both_2
  exact w_X8_both_2_0 w
def W_X8_fits_19 (D : JD) (d : Nat) (Q : JO → JH → Prop) (q0 : Nat) (s1 : Int32) (h : JH) : Prop :=
  q0 ≠ 0 ∧ (cX8_must D d q0 s1 (jcs D 320) h (pV D h (fun h_2 => Q (.inl none) h_2) (jth Q)))
theorem w_X8_fits_19 {D : JD} {d : Nat} {Q : JO → JH → Prop} {q0 : Nat} {s1 : Int32} {h : JH} (w : W_X8_fits_19 D d Q q0 s1 h) : JW D (d + 1) mX8_fits 19 [none, none, none] [vI s1, vR 41 q0] h Q := by
  unfold W_X8_fits_19 at w
  refine jw_ldcwS (pc' := 22) rfl rfl rfl rfl ?_
  obtain ⟨g_1, w⟩ := w
  refine jw_cV (st := []) (sa := [vR 41 q0, vI s1, vR 51 (jcs D 320)]) okX8_must rfl rfl rfl rfl rfl rfl (jstp_virtual (sa := [vI s1, vR 51 (jcs D 320)]) (st := []) (k := 0) rfl rfl sX8_must okX8_must g_1 (one41.k g_1) rfl rfl) w (fun h_2 _ _ w => ?_)
  exact jw_return rfl rfl w
def W_X8_fits_14 (D : JD) (d : Nat) (Q : JO → JH → Prop) (q0 : Nat) (h : JH) : Prop :=
  W_X8_fits_19 D d Q q0 (1 : Int32) h
theorem w_X8_fits_14 {D : JD} {d : Nat} {Q : JO → JH → Prop} {q0 : Nat} {h : JH} (w : W_X8_fits_14 D d Q q0 h) : JW D (d + 1) mX8_fits 14 [none, none, none] [vR 41 q0] h Q := by
  unfold W_X8_fits_14 at w
  refine jw_iconst (pc' := 15) (x := (1 : Int32)) rfl rfl ?_
  refine jw_goto (pc' := 19) rfl rfl ?_
  exact w_X8_fits_19 w
def W_X8_fits_0 (D : JD) (d : Nat) (Q : JO → JH → Prop) (r0 : Nat) (x1 : Int32) (x2 : Int32) (h : JH) : Prop :=
  (x1 = 0 → W_X8_fits_14 D d Q r0 h) ∧ (¬ x1 = 0 → (x2 = 0 → W_X8_fits_14 D d Q r0 h) ∧ (¬ x2 = 0 → (¬ x1 = x2 → W_X8_fits_19 D d Q r0 (0 : Int32) h) ∧ (x1 = x2 → W_X8_fits_14 D d Q r0 h)))
theorem w_X8_fits_0 {D : JD} {d : Nat} {Q : JO → JH → Prop} {r0 : Nat} {x1 : Int32} {x2 : Int32} {h : JH} (w : W_X8_fits_0 D d Q r0 x1 x2 h) : JW D (d + 1) mX8_fits 0 [some (vR 41 r0), some (vI x1), some (vI x2)] [] h Q := by
  unfold W_X8_fits_0 at w
  refine jw_aload_n (pc' := 1) rfl rfl ?_
  refine jw_iload_n (pc' := 2) rfl rfl ?_
  refine jw_if_eq (tgt := 14) (pc' := 5) rfl rfl (fun c_1 => ?_) (fun c_1 => ?_)
  · replace w := w.1 c_1
    refine jw_gen (ls' := [none, none, none]) (st' := [vR 41 r0]) (trivial) (And.intro (Or.inl rfl) (trivial)) ?_
    exact w_X8_fits_14 w
  · replace w := w.2 c_1
    refine jw_iload_n (pc' := 6) rfl rfl ?_
    refine jw_if_eq (tgt := 14) (pc' := 9) rfl rfl (fun c_2 => ?_) (fun c_2 => ?_)
    · replace w := w.1 c_2
      refine jw_gen (ls' := [none, none, none]) (st' := [vR 41 r0]) (trivial) (And.intro (Or.inl rfl) (trivial)) ?_
      exact w_X8_fits_14 w
    · replace w := w.2 c_2
      refine jw_iload_n (pc' := 10) rfl rfl ?_
      refine jw_iload_n (pc' := 11) rfl rfl ?_
      refine jw_icmp_ne (tgt := 18) (pc' := 14) rfl rfl (fun c_3 => ?_) (fun c_3 => ?_)
      · replace w := w.1 c_3
        refine jw_iconst (pc' := 19) (x := (0 : Int32)) rfl rfl ?_
        refine jw_gen (ls' := [none, none, none]) (st' := [vI (0 : Int32), vR 41 r0]) (trivial) (And.intro (Or.inl rfl) (And.intro (Or.inl rfl) (trivial))) ?_
        exact w_X8_fits_19 w
      · replace w := w.2 c_3
        refine jw_gen (ls' := [none, none, none]) (st' := [vR 41 r0]) (trivial) (And.intro (Or.inl rfl) (trivial)) ?_
        exact w_X8_fits_14 w
def T_X8_fits (D : JD) (d : Nat) (Q : JO → JH → Prop) (r0 : Nat) (x1 : Int32) (x2 : Int32) (h : JH) : Prop := W_X8_fits_0 D d Q r0 x1 x2 h
theorem t_X8_fits {D : JD} {d : Nat} {Q : JO → JH → Prop} {r0 : Nat} {x1 : Int32} {x2 : Int32} {h : JH} (w : T_X8_fits D d Q r0 x1 x2 h) : cX8_fits D (d + 1) r0 x1 x2 h Q := by
  unfold T_X8_fits at w
  unfold cX8_fits
  exact w_X8_fits_0 w
def W_X8_same_15 (D : JD) (d : Nat) (Q : JO → JH → Prop) (s0 : Int32) (h : JH) : Prop :=
  Q (.inl (some (vI s0))) h
theorem w_X8_same_15 {D : JD} {d : Nat} {Q : JO → JH → Prop} {s0 : Int32} {h : JH} (w : W_X8_same_15 D d Q s0 h) : JW D (d + 1) mX8_same 15 [none, none, none] [vI s0] h Q := by
  unfold W_X8_same_15 at w
  exact jw_ireturn rfl rfl (rfl) w
def W_X8_same_0 (D : JD) (d : Nat) (Q : JO → JH → Prop) (r0 : Nat) (x1 : Int32) (x2 : Int32) (h : JH) : Prop :=
  r0 ≠ 0 ∧ (cX8_fits D d r0 x1 x2 h (pV D h (fun h_2 => (¬ x1 = 0 → W_X8_same_15 D d Q x1 h_2) ∧ (x1 = 0 → W_X8_same_15 D d Q x2 h_2)) (jth Q)))
theorem w_X8_same_0 {D : JD} {d : Nat} {Q : JO → JH → Prop} {r0 : Nat} {x1 : Int32} {x2 : Int32} {h : JH} (w : W_X8_same_0 D d Q r0 x1 x2 h) : JW D (d + 1) mX8_same 0 [some (vR 41 r0), some (vI x1), some (vI x2)] [] h Q := by
  unfold W_X8_same_0 at w
  refine jw_aload_n (pc' := 1) rfl rfl ?_
  refine jw_iload_n (pc' := 2) rfl rfl ?_
  refine jw_iload_n (pc' := 3) rfl rfl ?_
  obtain ⟨g_1, w⟩ := w
  refine jw_cV (st := []) (sa := [vR 41 r0, vI x1, vI x2]) okX8_fits rfl rfl rfl rfl rfl rfl (jstp_virtual (sa := [vI x1, vI x2]) (st := []) (k := 0) rfl rfl sX8_fits okX8_fits g_1 (one41.k g_1) rfl rfl) w (fun h_2 _ _ w => ?_)
  refine jw_iload_n (pc' := 7) rfl rfl ?_
  refine jw_if_ne (tgt := 14) (pc' := 10) rfl rfl (fun c_5 => ?_) (fun c_5 => ?_)
  · replace w := w.1 c_5
    refine jw_iload_n (pc' := 15) rfl rfl ?_
    refine jw_gen (ls' := [none, none, none]) (st' := [vI x1]) (trivial) (And.intro (Or.inl rfl) (trivial)) ?_
    exact w_X8_same_15 w
  · replace w := w.2 c_5
    refine jw_iload_n (pc' := 11) rfl rfl ?_
    refine jw_goto (pc' := 15) rfl rfl ?_
    refine jw_gen (ls' := [none, none, none]) (st' := [vI x2]) (trivial) (And.intro (Or.inl rfl) (trivial)) ?_
    exact w_X8_same_15 w
def T_X8_same (D : JD) (d : Nat) (Q : JO → JH → Prop) (r0 : Nat) (x1 : Int32) (x2 : Int32) (h : JH) : Prop := W_X8_same_0 D d Q r0 x1 x2 h
theorem t_X8_same {D : JD} {d : Nat} {Q : JO → JH → Prop} {r0 : Nat} {x1 : Int32} {x2 : Int32} {h : JH} (w : T_X8_same D d Q r0 x1 x2 h) : cX8_same D (d + 1) r0 x1 x2 h Q := by
  unfold T_X8_same at w
  unfold cX8_same
  exact w_X8_same_0 w
def W_X8_chosen_102 (D : JD) (d : Nat) (Q : JO → JH → Prop) (s0 : Int32) (h : JH) : Prop :=
  Q (.inl (some (vI s0))) h
theorem w_X8_chosen_102 {D : JD} {d : Nat} {Q : JO → JH → Prop} {s0 : Int32} {h : JH} (w : W_X8_chosen_102 D d Q s0 h) : JW D (d + 1) mX8_chosen 102 [none, none, none, none, none] [vI s0] h Q := by
  unfold W_X8_chosen_102 at w
  exact jw_ireturn rfl rfl (rfl) w
def W_X8_chosen_43 (D : JD) (d : Nat) (Q : JO → JH → Prop) (K43 : Nat → Nat → Int32 → Int32 → Int32 → JH → Prop) (r0 : Nat) (r1 : Nat) (x2 : Int32) (x3 : Int32) (x4 : Int32) (h : JH) : Prop :=
  (x2 ≤ x4 → r1 ≠ 0 ∧ ((¬ (jfi h 306 r1) = (1 : Int32) → W_X8_chosen_102 D d Q x3 h) ∧ ((jfi h 306 r1) = (1 : Int32) → (jfr h 310 r1) ≠ 0 ∧ jin ((jfi h 311 r1) - (1 : Int32)) (jln h (jfr h 310 r1)) ∧ ((jar h (jfr h 310 r1) (ixn ((jfi h 311 r1) - (1 : Int32)))) ≠ 0 ∧ (r0 ≠ 0 ∧ (cX8_same D d r0 x3 (jfi h 312 (jar h (jfr h 310 r1) (ixn ((jfi h 311 r1) - (1 : Int32))))) h (pI D h (fun v_10 h_8 => W_X8_chosen_102 D d Q v_10 h_8) (jth Q)))))))) ∧ (¬ x2 ≤ x4 → r1 ≠ 0 ∧ ((jfr h 310 r1) ≠ 0 ∧ jin x4 (jln h (jfr h 310 r1)) ∧ ((jar h (jfr h 310 r1) (ixn x4)) ≠ 0 ∧ (r0 ≠ 0 ∧ (cX8_same D d r0 x3 (jfi h 312 (jar h (jfr h 310 r1) (ixn x4))) h (pI D h (fun v_18 h_16 => K43 r0 r1 x2 v_18 (x4 + (2 : Int32)) h_16) (jth Q)))))))
theorem w_X8_chosen_43 {D : JD} {d : Nat} {Q : JO → JH → Prop} {K43 : Nat → Nat → Int32 → Int32 → Int32 → JH → Prop} {r0 : Nat} {r1 : Nat} {x2 : Int32} {x3 : Int32} {x4 : Int32} {h : JH} (hK43 : ∀ (r0 : Nat) (r1 : Nat) (x2 : Int32) (x3 : Int32) (x4 : Int32) (h : JH), K43 r0 r1 x2 x3 x4 h → JW D (d + 1) mX8_chosen 43 [some (vR 41 r0), some (vR 48 r1), some (vI x2), some (vI x3), some (vI x4)] [] h Q) (w : W_X8_chosen_43 D d Q K43 r0 r1 x2 x3 x4 h) : JW D (d + 1) mX8_chosen 43 [some (vR 41 r0), some (vR 48 r1), some (vI x2), some (vI x3), some (vI x4)] [] h Q := by
  unfold W_X8_chosen_43 at w
  refine jw_iload (pc' := 45) rfl rfl ?_
  refine jw_iload_n (pc' := 46) rfl rfl ?_
  refine jw_icmp_ge (tgt := 71) (pc' := 49) rfl rfl (fun c_1 => ?_) (fun c_1 => ?_)
  · replace w := w.1 c_1
    refine jw_aload_n (pc' := 72) rfl rfl ?_
    obtain ⟨g_2, w⟩ := w
    refine jw_getI (pc' := 75) (F := 306) rfl rfl rfl rfl g_2 ?_
    refine jw_iconst (pc' := 76) (x := (1 : Int32)) rfl rfl ?_
    refine jw_icmp_ne (tgt := 101) (pc' := 79) rfl rfl (fun c_3 => ?_) (fun c_3 => ?_)
    · replace w := w.1 c_3
      refine jw_iload_n (pc' := 102) rfl rfl ?_
      refine jw_gen (ls' := [none, none, none, none, none]) (st' := [vI x3]) (trivial) (And.intro (Or.inl rfl) (trivial)) ?_
      exact w_X8_chosen_102 w
    · replace w := w.2 c_3
      refine jw_aload_n (pc' := 80) rfl rfl ?_
      refine jw_iload_n (pc' := 81) rfl rfl ?_
      refine jw_aload_n (pc' := 82) rfl rfl ?_
      refine jw_getR (pc' := 85) (F := 310) (t' := 215) rfl rfl rfl rfl rfl g_2 ?_
      refine jw_aload_n (pc' := 86) rfl rfl ?_
      refine jw_getI (pc' := 89) (F := 311) rfl rfl rfl rfl g_2 ?_
      refine jw_iconst (pc' := 90) (x := (1 : Int32)) rfl rfl ?_
      refine jw_isub (pc' := 91) rfl ?_
      obtain ⟨g_4, w⟩ := w
      obtain ⟨g_5, w⟩ := w
      refine jw_aald (pc' := 92) (t' := 48) rfl rfl rfl rfl g_4 g_5.ix g_5.2 ?_
      obtain ⟨g_6, w⟩ := w
      refine jw_getI (pc' := 95) (F := 312) rfl rfl rfl rfl g_6 ?_
      obtain ⟨g_7, w⟩ := w
      refine jw_cI (st := []) (sa := [vR 41 r0, vI x3, vI (jfi h 312 (jar h (jfr h 310 r1) (ixn ((jfi h 311 r1) - (1 : Int32)))))]) okX8_same rfl rfl rfl rfl rfl rfl (jstp_virtual (sa := [vI x3, vI (jfi h 312 (jar h (jfr h 310 r1) (ixn ((jfi h 311 r1) - (1 : Int32)))))]) (st := []) (k := 0) rfl rfl sX8_same okX8_same g_7 (one41.k g_7) rfl rfl) w (fun v_10 h_8 _ _ w => ?_)
      refine jw_goto (pc' := 102) rfl rfl ?_
      refine jw_gen (ls' := [none, none, none, none, none]) (st' := [vI v_10]) (trivial) (And.intro (Or.inl rfl) (trivial)) ?_
      exact w_X8_chosen_102 w
  · replace w := w.2 c_1
    refine jw_aload_n (pc' := 50) rfl rfl ?_
    refine jw_iload_n (pc' := 51) rfl rfl ?_
    refine jw_aload_n (pc' := 52) rfl rfl ?_
    obtain ⟨g_11, w⟩ := w
    refine jw_getR (pc' := 55) (F := 310) (t' := 215) rfl rfl rfl rfl rfl g_11 ?_
    refine jw_iload (pc' := 57) rfl rfl ?_
    obtain ⟨g_12, w⟩ := w
    obtain ⟨g_13, w⟩ := w
    refine jw_aald (pc' := 58) (t' := 48) rfl rfl rfl rfl g_12 g_13.ix g_13.2 ?_
    obtain ⟨g_14, w⟩ := w
    refine jw_getI (pc' := 61) (F := 312) rfl rfl rfl rfl g_14 ?_
    obtain ⟨g_15, w⟩ := w
    refine jw_cI (st := []) (sa := [vR 41 r0, vI x3, vI (jfi h 312 (jar h (jfr h 310 r1) (ixn x4)))]) okX8_same rfl rfl rfl rfl rfl rfl (jstp_virtual (sa := [vI x3, vI (jfi h 312 (jar h (jfr h 310 r1) (ixn x4)))]) (st := []) (k := 0) rfl rfl sX8_same okX8_same g_15 (one41.k g_15) rfl rfl) w (fun v_18 h_16 _ _ w => ?_)
    refine jw_istore_n (pc' := 65) (ls' := [some (vR 41 r0), some (vR 48 r1), some (vI x2), some (vI v_18), some (vI x4)]) rfl (by decide) rfl ?_
    refine jw_iinc (pc' := 68) (y := x4 + (2 : Int32)) (ls' := [some (vR 41 r0), some (vR 48 r1), some (vI x2), some (vI v_18), some (vI (x4 + (2 : Int32)))]) rfl (by decide) rfl rfl rfl ?_
    refine jw_goto (pc' := 43) rfl rfl ?_
    exact hK43 _ _ _ _ _ _ w
def L_X8_chosen_43 (D : JD) (d : Nat) (Q : JO → JH → Prop) : Nat → Nat → Nat → Int32 → Int32 → Int32 → JH → Prop
  | 0 => fun _ _ _ _ _ _ => False
  | n + 1 => fun r0 r1 x2 x3 x4 h => W_X8_chosen_43 D d Q (L_X8_chosen_43 D d Q n) r0 r1 x2 x3 x4 h
theorem l_X8_chosen_43 {D : JD} {d : Nat} {Q : JO → JH → Prop} : ∀ (n : Nat) (r0 : Nat) (r1 : Nat) (x2 : Int32) (x3 : Int32) (x4 : Int32) (h : JH), L_X8_chosen_43 D d Q n r0 r1 x2 x3 x4 h → JW D (d + 1) mX8_chosen 43 [some (vR 41 r0), some (vR 48 r1), some (vI x2), some (vI x3), some (vI x4)] [] h Q := by
  intro n
  induction n with
  | zero => intro _ _ _ _ _ _ w; exact w.elim
  | succ n ih => intro _ _ _ _ _ h w; exact w_X8_chosen_43 ih w
def W_X8_chosen_12 (D : JD) (d : Nat) (Q : JO → JH → Prop) (K12 : Nat → Nat → Int32 → Int32 → JH → Prop) (r0 : Nat) (r1 : Nat) (x2 : Int32) (x3 : Int32) (h : JH) : Prop :=
  (x2 ≤ x3 → ∃ n, L_X8_chosen_43 D d Q n r0 r1 x2 (0 : Int32) (1 : Int32) h) ∧ (¬ x2 ≤ x3 → r1 ≠ 0 ∧ ((jfr h 310 r1) ≠ 0 ∧ jin x3 (jln h (jfr h 310 r1)) ∧ ((jar h (jfr h 310 r1) (ixn x3)) ≠ 0 ∧ (r0 ≠ 0 ∧ (cX8_fits D d r0 (jfi h 312 (jar h (jfr h 310 r1) (ixn x3))) (16 : Int32) h (pV D h (fun h_7 => K12 r0 r1 x2 (x3 + (2 : Int32)) h_7) (jth Q)))))))
theorem w_X8_chosen_12 {D : JD} {d : Nat} {Q : JO → JH → Prop} {K12 : Nat → Nat → Int32 → Int32 → JH → Prop} {r0 : Nat} {r1 : Nat} {x2 : Int32} {x3 : Int32} {h : JH} (hK12 : ∀ (r0 : Nat) (r1 : Nat) (x2 : Int32) (x3 : Int32) (h : JH), K12 r0 r1 x2 x3 h → JW D (d + 1) mX8_chosen 12 [some (vR 41 r0), some (vR 48 r1), some (vI x2), some (vI x3), none] [] h Q) (w : W_X8_chosen_12 D d Q K12 r0 r1 x2 x3 h) : JW D (d + 1) mX8_chosen 12 [some (vR 41 r0), some (vR 48 r1), some (vI x2), some (vI x3), none] [] h Q := by
  unfold W_X8_chosen_12 at w
  refine jw_iload_n (pc' := 13) rfl rfl ?_
  refine jw_iload_n (pc' := 14) rfl rfl ?_
  refine jw_icmp_ge (tgt := 38) (pc' := 17) rfl rfl (fun c_1 => ?_) (fun c_1 => ?_)
  · replace w := w.1 c_1
    refine jw_iconst (pc' := 39) (x := (0 : Int32)) rfl rfl ?_
    refine jw_istore_n (pc' := 40) (ls' := [some (vR 41 r0), some (vR 48 r1), some (vI x2), some (vI (0 : Int32)), none]) rfl (by decide) rfl ?_
    refine jw_iconst (pc' := 41) (x := (1 : Int32)) rfl rfl ?_
    refine jw_istore (pc' := 43) (ls' := [some (vR 41 r0), some (vR 48 r1), some (vI x2), some (vI (0 : Int32)), some (vI (1 : Int32))]) rfl (by decide) rfl ?_
    obtain ⟨n, w⟩ := w
    exact l_X8_chosen_43 n _ _ _ _ _ _ w
  · replace w := w.2 c_1
    refine jw_aload_n (pc' := 18) rfl rfl ?_
    refine jw_aload_n (pc' := 19) rfl rfl ?_
    obtain ⟨g_2, w⟩ := w
    refine jw_getR (pc' := 22) (F := 310) (t' := 215) rfl rfl rfl rfl rfl g_2 ?_
    refine jw_iload_n (pc' := 23) rfl rfl ?_
    obtain ⟨g_3, w⟩ := w
    obtain ⟨g_4, w⟩ := w
    refine jw_aald (pc' := 24) (t' := 48) rfl rfl rfl rfl g_3 g_4.ix g_4.2 ?_
    obtain ⟨g_5, w⟩ := w
    refine jw_getI (pc' := 27) (F := 312) rfl rfl rfl rfl g_5 ?_
    refine jw_bipush (pc' := 29) (x := (16 : Int32)) rfl rfl ?_
    obtain ⟨g_6, w⟩ := w
    refine jw_cV (st := []) (sa := [vR 41 r0, vI (jfi h 312 (jar h (jfr h 310 r1) (ixn x3))), vI (16 : Int32)]) okX8_fits rfl rfl rfl rfl rfl rfl (jstp_virtual (sa := [vI (jfi h 312 (jar h (jfr h 310 r1) (ixn x3))), vI (16 : Int32)]) (st := []) (k := 0) rfl rfl sX8_fits okX8_fits g_6 (one41.k g_6) rfl rfl) w (fun h_7 _ _ w => ?_)
    refine jw_iinc (pc' := 35) (y := x3 + (2 : Int32)) (ls' := [some (vR 41 r0), some (vR 48 r1), some (vI x2), some (vI (x3 + (2 : Int32))), none]) rfl (by decide) rfl rfl rfl ?_
    refine jw_goto (pc' := 12) rfl rfl ?_
    exact hK12 _ _ _ _ _ w
def L_X8_chosen_12 (D : JD) (d : Nat) (Q : JO → JH → Prop) : Nat → Nat → Nat → Int32 → Int32 → JH → Prop
  | 0 => fun _ _ _ _ _ => False
  | n + 1 => fun r0 r1 x2 x3 h => W_X8_chosen_12 D d Q (L_X8_chosen_12 D d Q n) r0 r1 x2 x3 h
theorem l_X8_chosen_12 {D : JD} {d : Nat} {Q : JO → JH → Prop} : ∀ (n : Nat) (r0 : Nat) (r1 : Nat) (x2 : Int32) (x3 : Int32) (h : JH), L_X8_chosen_12 D d Q n r0 r1 x2 x3 h → JW D (d + 1) mX8_chosen 12 [some (vR 41 r0), some (vR 48 r1), some (vI x2), some (vI x3), none] [] h Q := by
  intro n
  induction n with
  | zero => intro _ _ _ _ _ w; exact w.elim
  | succ n ih => intro _ _ _ _ h w; exact w_X8_chosen_12 ih w
def W_X8_chosen_0 (D : JD) (d : Nat) (Q : JO → JH → Prop) (r0 : Nat) (r1 : Nat) (h : JH) : Prop :=
  r1 ≠ 0 ∧ (∃ n, L_X8_chosen_12 D d Q n r0 r1 ((jfi h 311 r1) - (jfi h 306 r1)) (0 : Int32) h)
theorem w_X8_chosen_0 {D : JD} {d : Nat} {Q : JO → JH → Prop} {r0 : Nat} {r1 : Nat} {h : JH} (w : W_X8_chosen_0 D d Q r0 r1 h) : JW D (d + 1) mX8_chosen 0 [some (vR 41 r0), some (vR 48 r1), none, none, none] [] h Q := by
  unfold W_X8_chosen_0 at w
  refine jw_aload_n (pc' := 1) rfl rfl ?_
  obtain ⟨g_1, w⟩ := w
  refine jw_getI (pc' := 4) (F := 311) rfl rfl rfl rfl g_1 ?_
  refine jw_aload_n (pc' := 5) rfl rfl ?_
  refine jw_getI (pc' := 8) (F := 306) rfl rfl rfl rfl g_1 ?_
  refine jw_isub (pc' := 9) rfl ?_
  refine jw_istore_n (pc' := 10) (ls' := [some (vR 41 r0), some (vR 48 r1), some (vI ((jfi h 311 r1) - (jfi h 306 r1))), none, none]) rfl (by decide) rfl ?_
  refine jw_iconst (pc' := 11) (x := (0 : Int32)) rfl rfl ?_
  refine jw_istore_n (pc' := 12) (ls' := [some (vR 41 r0), some (vR 48 r1), some (vI ((jfi h 311 r1) - (jfi h 306 r1))), some (vI (0 : Int32)), none]) rfl (by decide) rfl ?_
  obtain ⟨n, w⟩ := w
  exact l_X8_chosen_12 n _ _ _ _ _ w
def T_X8_chosen (D : JD) (d : Nat) (Q : JO → JH → Prop) (r0 : Nat) (r1 : Nat) (h : JH) : Prop := W_X8_chosen_0 D d Q r0 r1 h
theorem t_X8_chosen {D : JD} {d : Nat} {Q : JO → JH → Prop} {r0 : Nat} {r1 : Nat} {h : JH} (w : T_X8_chosen D d Q r0 r1 h) : cX8_chosen D (d + 1) r0 r1 h Q := by
  unfold T_X8_chosen at w
  unfold cX8_chosen
  exact w_X8_chosen_0 w
def W_X8_condition_15 (D : JD) (d : Nat) (Q : JO → JH → Prop) (h : JH) : Prop :=
  Q (.inl none) h
theorem w_X8_condition_15 {D : JD} {d : Nat} {Q : JO → JH → Prop} {h : JH} (w : W_X8_condition_15 D d Q h) : JW D (d + 1) mX8_condition 15 [none, none] [] h Q := by
  unfold W_X8_condition_15 at w
  exact jw_return rfl rfl w
def W_X8_condition_0 (D : JD) (d : Nat) (Q : JO → JH → Prop) (r0 : Nat) (r1 : Nat) (h : JH) : Prop :=
  (r1 = 0 → W_X8_condition_15 D d Q h) ∧ (r1 ≠ 0 → r0 ≠ 0 ∧ (cX8_check_2 D d r0 r1 h (pI D h (fun v_5 h_3 => cX8_fits D d r0 v_5 (16 : Int32) h_3 (pV D h_3 (fun h_6 => W_X8_condition_15 D d Q h_6) (jth Q))) (jth Q))))
theorem w_X8_condition_0 {D : JD} {d : Nat} {Q : JO → JH → Prop} {r0 : Nat} {r1 : Nat} {h : JH} (w : W_X8_condition_0 D d Q r0 r1 h) : JW D (d + 1) mX8_condition 0 [some (vR 41 r0), some (vR 48 r1)] [] h Q := by
  unfold W_X8_condition_0 at w
  refine jw_aload_n (pc' := 1) rfl rfl ?_
  refine jw_ifnull (tgt := 15) (pc' := 4) rfl rfl (fun c_1 => ?_) (fun c_1 => ?_)
  · replace w := w.1 c_1
    refine jw_gen (ls' := [none, none]) (st' := []) (trivial) (trivial) ?_
    exact w_X8_condition_15 w
  · replace w := w.2 c_1
    refine jw_aload_n (pc' := 5) rfl rfl ?_
    refine jw_aload_n (pc' := 6) rfl rfl ?_
    refine jw_aload_n (pc' := 7) rfl rfl ?_
    obtain ⟨g_2, w⟩ := w
    refine jw_cI (st := [vR 41 r0]) (sa := [vR 41 r0, vR 48 r1]) okX8_check_2 rfl rfl rfl rfl rfl rfl (jstp_virtual (sa := [vR 48 r1]) (st := [vR 41 r0]) (k := 0) rfl rfl sX8_check_2 okX8_check_2 g_2 (one41.k g_2) rfl rfl) w (fun v_5 h_3 _ _ w => ?_)
    refine jw_bipush (pc' := 12) (x := (16 : Int32)) rfl rfl ?_
    refine jw_cV (st := []) (sa := [vR 41 r0, vI v_5, vI (16 : Int32)]) okX8_fits rfl rfl rfl rfl rfl rfl (jstp_virtual (sa := [vI v_5, vI (16 : Int32)]) (st := []) (k := 0) rfl rfl sX8_fits okX8_fits g_2 (one41.k g_2) rfl rfl) w (fun h_6 _ _ w => ?_)
    refine jw_gen (ls' := [none, none]) (st' := []) (trivial) (trivial) ?_
    exact w_X8_condition_15 w
def T_X8_condition (D : JD) (d : Nat) (Q : JO → JH → Prop) (r0 : Nat) (r1 : Nat) (h : JH) : Prop := W_X8_condition_0 D d Q r0 r1 h
theorem t_X8_condition {D : JD} {d : Nat} {Q : JO → JH → Prop} {r0 : Nat} {r1 : Nat} {h : JH} (w : T_X8_condition D d Q r0 r1 h) : cX8_condition D (d + 1) r0 r1 h Q := by
  unfold T_X8_condition at w
  unfold cX8_condition
  exact w_X8_condition_0 w
def W_X8_checkSelect_276 (D : JD) (d : Nat) (Q : JO → JH → Prop) (K276 : Nat → Nat → Int32 → JH → Prop) (r0 : Nat) (r1 : Nat) (x2 : Int32) (h : JH) : Prop :=
  r1 ≠ 0 ∧ (((jfi h 296 r1) ≤ x2 → Q (.inl none) h) ∧ (¬ (jfi h 296 r1) ≤ x2 → r0 ≠ 0 ∧ (cX8_checkOrder D d r0 r1 x2 h (pV D h (fun h_4 => K276 r0 r1 (x2 + (1 : Int32)) h_4) (jth Q)))))
theorem w_X8_checkSelect_276 {D : JD} {d : Nat} {Q : JO → JH → Prop} {K276 : Nat → Nat → Int32 → JH → Prop} {r0 : Nat} {r1 : Nat} {x2 : Int32} {h : JH} (hK276 : ∀ (r0 : Nat) (r1 : Nat) (x2 : Int32) (h : JH), K276 r0 r1 x2 h → JW D (d + 1) mX8_checkSelect 276 [some (vR 41 r0), some (vR 47 r1), some (vI x2), none] [] h Q) (w : W_X8_checkSelect_276 D d Q K276 r0 r1 x2 h) : JW D (d + 1) mX8_checkSelect 276 [some (vR 41 r0), some (vR 47 r1), some (vI x2), none] [] h Q := by
  unfold W_X8_checkSelect_276 at w
  refine jw_iload_n (pc' := 277) rfl rfl ?_
  refine jw_aload_n (pc' := 278) rfl rfl ?_
  obtain ⟨g_1, w⟩ := w
  refine jw_getI (pc' := 281) (F := 296) rfl rfl rfl rfl g_1 ?_
  refine jw_icmp_ge (tgt := 296) (pc' := 284) rfl rfl (fun c_2 => ?_) (fun c_2 => ?_)
  · replace w := w.1 c_2
    exact jw_return rfl rfl w
  · replace w := w.2 c_2
    refine jw_aload_n (pc' := 285) rfl rfl ?_
    refine jw_aload_n (pc' := 286) rfl rfl ?_
    refine jw_iload_n (pc' := 287) rfl rfl ?_
    obtain ⟨g_3, w⟩ := w
    refine jw_cV (st := []) (sa := [vR 41 r0, vR 47 r1, vI x2]) okX8_checkOrder rfl rfl rfl rfl rfl rfl (jstp_virtual (sa := [vR 47 r1, vI x2]) (st := []) (k := 0) rfl rfl sX8_checkOrder okX8_checkOrder g_3 (one41.k g_3) rfl rfl) w (fun h_4 _ _ w => ?_)
    refine jw_iinc (pc' := 293) (y := x2 + (1 : Int32)) (ls' := [some (vR 41 r0), some (vR 47 r1), some (vI (x2 + (1 : Int32))), none]) rfl (by decide) rfl rfl rfl ?_
    refine jw_goto (pc' := 276) rfl rfl ?_
    exact hK276 _ _ _ _ w
def L_X8_checkSelect_276 (D : JD) (d : Nat) (Q : JO → JH → Prop) : Nat → Nat → Nat → Int32 → JH → Prop
  | 0 => fun _ _ _ _ => False
  | n + 1 => fun r0 r1 x2 h => W_X8_checkSelect_276 D d Q (L_X8_checkSelect_276 D d Q n) r0 r1 x2 h
theorem l_X8_checkSelect_276 {D : JD} {d : Nat} {Q : JO → JH → Prop} : ∀ (n : Nat) (r0 : Nat) (r1 : Nat) (x2 : Int32) (h : JH), L_X8_checkSelect_276 D d Q n r0 r1 x2 h → JW D (d + 1) mX8_checkSelect 276 [some (vR 41 r0), some (vR 47 r1), some (vI x2), none] [] h Q := by
  intro n
  induction n with
  | zero => intro _ _ _ _ w; exact w.elim
  | succ n ih => intro _ _ _ h w; exact w_X8_checkSelect_276 ih w
def W_X8_checkSelect_254 (D : JD) (d : Nat) (Q : JO → JH → Prop) (K254 : Nat → Nat → Int32 → JH → Prop) (r0 : Nat) (r1 : Nat) (x2 : Int32) (h : JH) : Prop :=
  r1 ≠ 0 ∧ (((jfi h 285 r1) ≤ x2 → ∃ n, L_X8_checkSelect_276 D d Q n r0 r1 (0 : Int32) h) ∧ (¬ (jfi h 285 r1) ≤ x2 → r0 ≠ 0 ∧ (cX8_checkItem D d r0 r1 x2 h (pV D h (fun h_4 => K254 r0 r1 (x2 + (1 : Int32)) h_4) (jth Q)))))
theorem w_X8_checkSelect_254 {D : JD} {d : Nat} {Q : JO → JH → Prop} {K254 : Nat → Nat → Int32 → JH → Prop} {r0 : Nat} {r1 : Nat} {x2 : Int32} {h : JH} (hK254 : ∀ (r0 : Nat) (r1 : Nat) (x2 : Int32) (h : JH), K254 r0 r1 x2 h → JW D (d + 1) mX8_checkSelect 254 [some (vR 41 r0), some (vR 47 r1), some (vI x2), none] [] h Q) (w : W_X8_checkSelect_254 D d Q K254 r0 r1 x2 h) : JW D (d + 1) mX8_checkSelect 254 [some (vR 41 r0), some (vR 47 r1), some (vI x2), none] [] h Q := by
  unfold W_X8_checkSelect_254 at w
  refine jw_iload_n (pc' := 255) rfl rfl ?_
  refine jw_aload_n (pc' := 256) rfl rfl ?_
  obtain ⟨g_1, w⟩ := w
  refine jw_getI (pc' := 259) (F := 285) rfl rfl rfl rfl g_1 ?_
  refine jw_icmp_ge (tgt := 274) (pc' := 262) rfl rfl (fun c_2 => ?_) (fun c_2 => ?_)
  · replace w := w.1 c_2
    refine jw_iconst (pc' := 275) (x := (0 : Int32)) rfl rfl ?_
    refine jw_istore_n (pc' := 276) (ls' := [some (vR 41 r0), some (vR 47 r1), some (vI (0 : Int32)), none]) rfl (by decide) rfl ?_
    obtain ⟨n, w⟩ := w
    exact l_X8_checkSelect_276 n _ _ _ _ w
  · replace w := w.2 c_2
    refine jw_aload_n (pc' := 263) rfl rfl ?_
    refine jw_aload_n (pc' := 264) rfl rfl ?_
    refine jw_iload_n (pc' := 265) rfl rfl ?_
    obtain ⟨g_3, w⟩ := w
    refine jw_cV (st := []) (sa := [vR 41 r0, vR 47 r1, vI x2]) okX8_checkItem rfl rfl rfl rfl rfl rfl (jstp_virtual (sa := [vR 47 r1, vI x2]) (st := []) (k := 0) rfl rfl sX8_checkItem okX8_checkItem g_3 (one41.k g_3) rfl rfl) w (fun h_4 _ _ w => ?_)
    refine jw_iinc (pc' := 271) (y := x2 + (1 : Int32)) (ls' := [some (vR 41 r0), some (vR 47 r1), some (vI (x2 + (1 : Int32))), none]) rfl (by decide) rfl rfl rfl ?_
    refine jw_goto (pc' := 254) rfl rfl ?_
    exact hK254 _ _ _ _ w
def L_X8_checkSelect_254 (D : JD) (d : Nat) (Q : JO → JH → Prop) : Nat → Nat → Nat → Int32 → JH → Prop
  | 0 => fun _ _ _ _ => False
  | n + 1 => fun r0 r1 x2 h => W_X8_checkSelect_254 D d Q (L_X8_checkSelect_254 D d Q n) r0 r1 x2 h
theorem l_X8_checkSelect_254 {D : JD} {d : Nat} {Q : JO → JH → Prop} : ∀ (n : Nat) (r0 : Nat) (r1 : Nat) (x2 : Int32) (h : JH), L_X8_checkSelect_254 D d Q n r0 r1 x2 h → JW D (d + 1) mX8_checkSelect 254 [some (vR 41 r0), some (vR 47 r1), some (vI x2), none] [] h Q := by
  intro n
  induction n with
  | zero => intro _ _ _ _ w; exact w.elim
  | succ n ih => intro _ _ _ h w; exact w_X8_checkSelect_254 ih w
def W_X8_checkSelect_247 (D : JD) (d : Nat) (Q : JO → JH → Prop) (r0 : Nat) (r1 : Nat) (h : JH) : Prop :=
  r1 ≠ 0 ∧ ∀ h_2 : JH, h_2 = wfi h 302 r1 (0 : Int32) → (∃ n, L_X8_checkSelect_254 D d Q n r0 r1 (0 : Int32) h_2)
theorem w_X8_checkSelect_247 {D : JD} {d : Nat} {Q : JO → JH → Prop} {r0 : Nat} {r1 : Nat} {h : JH} (w : W_X8_checkSelect_247 D d Q r0 r1 h) : JW D (d + 1) mX8_checkSelect 247 [some (vR 41 r0), some (vR 47 r1), none, none] [] h Q := by
  unfold W_X8_checkSelect_247 at w
  refine jw_aload_n (pc' := 248) rfl rfl ?_
  refine jw_iconst (pc' := 249) (x := (0 : Int32)) rfl rfl ?_
  obtain ⟨g_1, w⟩ := w
  refine jw_putI' (pc' := 252) (F := 302) rfl rfl rfl (Or.inr rfl) (Or.inl rfl) rfl (rfl) (rfl) rfl g_1 (fun h_2 e_3 => ?_)
  replace w := w h_2 e_3
  refine jw_iconst (pc' := 253) (x := (0 : Int32)) rfl rfl ?_
  refine jw_istore_n (pc' := 254) (ls' := [some (vR 41 r0), some (vR 47 r1), some (vI (0 : Int32)), none]) rfl (by decide) rfl ?_
  obtain ⟨n, w⟩ := w
  exact l_X8_checkSelect_254 n _ _ _ _ w
def W_X8_checkSelect_186 (D : JD) (d : Nat) (Q : JO → JH → Prop) (K186 : Nat → Nat → Int32 → JH → Prop) (r0 : Nat) (r1 : Nat) (x2 : Int32) (h : JH) : Prop :=
  r1 ≠ 0 ∧ (((jfi h 296 r1) ≤ x2 → r0 ≠ 0 ∧ ∀ h_4 : JH, h_4 = wfi h 201 r0 (1 : Int32) → (((jfr h_4 293 r1) = 0 → W_X8_checkSelect_247 D d Q r0 r1 h_4) ∧ ((jfr h_4 293 r1) ≠ 0 → cX8_condition D d r0 (jfr h_4 293 r1) h_4 (pV D h_4 (fun h_7 => cX8_apart D d r0 r1 (jfr h_7 293 r1) h_7 (pV D h_7 (fun h_10 => W_X8_checkSelect_247 D d Q r0 r1 h_10) (jth Q))) (jth Q))))) ∧ (¬ (jfi h 296 r1) ≤ x2 → (jfr h 294 r1) ≠ 0 ∧ jin x2 (jln h (jfr h 294 r1)) ∧ (cX8_gathers D d (jar h (jfr h 294 r1) (ixn x2)) h (pI D h (fun v_17 h_15 => jbo ((jfi h 303 r1) ||| v_17) ∧ ∀ h_19 : JH, h_19 = wfi h_15 303 r1 ((jfi h 303 r1) ||| v_17) → (K186 r0 r1 (x2 + (1 : Int32)) h_19)) (jth Q)))))
theorem w_X8_checkSelect_186 {D : JD} {d : Nat} {Q : JO → JH → Prop} {K186 : Nat → Nat → Int32 → JH → Prop} {r0 : Nat} {r1 : Nat} {x2 : Int32} {h : JH} (hK186 : ∀ (r0 : Nat) (r1 : Nat) (x2 : Int32) (h : JH), K186 r0 r1 x2 h → JW D (d + 1) mX8_checkSelect 186 [some (vR 41 r0), some (vR 47 r1), some (vI x2), none] [] h Q) (w : W_X8_checkSelect_186 D d Q K186 r0 r1 x2 h) : JW D (d + 1) mX8_checkSelect 186 [some (vR 41 r0), some (vR 47 r1), some (vI x2), none] [] h Q := by
  unfold W_X8_checkSelect_186 at w
  refine jw_iload_n (pc' := 187) rfl rfl ?_
  refine jw_aload_n (pc' := 188) rfl rfl ?_
  obtain ⟨g_1, w⟩ := w
  refine jw_getI (pc' := 191) (F := 296) rfl rfl rfl rfl g_1 ?_
  refine jw_icmp_ge (tgt := 218) (pc' := 194) rfl rfl (fun c_2 => ?_) (fun c_2 => ?_)
  · replace w := w.1 c_2
    refine jw_aload_n (pc' := 219) rfl rfl ?_
    refine jw_iconst (pc' := 220) (x := (1 : Int32)) rfl rfl ?_
    obtain ⟨g_3, w⟩ := w
    refine jw_putI' (pc' := 223) (F := 201) rfl rfl rfl (Or.inr rfl) (Or.inl rfl) rfl (rfl) (rfl) rfl g_3 (fun h_4 e_5 => ?_)
    replace w := w h_4 e_5
    refine jw_aload_n (pc' := 224) rfl rfl ?_
    refine jw_getR (pc' := 227) (F := 293) (t' := 48) rfl rfl rfl rfl rfl g_1 ?_
    refine jw_ifnull (tgt := 247) (pc' := 230) rfl rfl (fun c_6 => ?_) (fun c_6 => ?_)
    · replace w := w.1 c_6
      refine jw_gen (ls' := [some (vR 41 r0), some (vR 47 r1), none, none]) (st' := []) (And.intro (Or.inl rfl) (And.intro (Or.inl rfl) (trivial))) (trivial) ?_
      exact w_X8_checkSelect_247 w
    · replace w := w.2 c_6
      refine jw_aload_n (pc' := 231) rfl rfl ?_
      refine jw_aload_n (pc' := 232) rfl rfl ?_
      refine jw_getR (pc' := 235) (F := 293) (t' := 48) rfl rfl rfl rfl rfl g_1 ?_
      refine jw_cV (st := []) (sa := [vR 41 r0, vR 48 (jfr h_4 293 r1)]) okX8_condition rfl rfl rfl rfl rfl rfl (jstp_virtual (sa := [vR 48 (jfr h_4 293 r1)]) (st := []) (k := 0) rfl rfl sX8_condition okX8_condition g_3 (one41.k g_3) rfl rfl) w (fun h_7 _ _ w => ?_)
      refine jw_aload_n (pc' := 239) rfl rfl ?_
      refine jw_aload_n (pc' := 240) rfl rfl ?_
      refine jw_aload_n (pc' := 241) rfl rfl ?_
      refine jw_getR (pc' := 244) (F := 293) (t' := 48) rfl rfl rfl rfl rfl g_1 ?_
      refine jw_cV (st := []) (sa := [vR 41 r0, vR 47 r1, vR 48 (jfr h_7 293 r1)]) okX8_apart rfl rfl rfl rfl rfl rfl (jstp_virtual (sa := [vR 47 r1, vR 48 (jfr h_7 293 r1)]) (st := []) (k := 0) rfl rfl sX8_apart okX8_apart g_3 (one41.k g_3) rfl rfl) w (fun h_10 _ _ w => ?_)
      refine jw_gen (ls' := [some (vR 41 r0), some (vR 47 r1), none, none]) (st' := []) (And.intro (Or.inl rfl) (And.intro (Or.inl rfl) (trivial))) (trivial) ?_
      exact w_X8_checkSelect_247 w
  · replace w := w.2 c_2
    refine jw_aload_n (pc' := 195) rfl rfl ?_
    refine jw_dup (pc' := 196) rfl rfl ?_
    refine jw_getI (pc' := 199) (F := 303) rfl rfl rfl rfl g_1 ?_
    refine jw_aload_n (pc' := 200) rfl rfl ?_
    refine jw_getR (pc' := 203) (F := 294) (t' := 210) rfl rfl rfl rfl rfl g_1 ?_
    refine jw_iload_n (pc' := 204) rfl rfl ?_
    obtain ⟨g_13, w⟩ := w
    obtain ⟨g_14, w⟩ := w
    refine jw_aald (pc' := 205) (t' := 48) rfl rfl rfl rfl g_13 g_14.ix g_14.2 ?_
    refine jw_cI (st := [vI (jfi h 303 r1), vR 47 r1]) (sa := [vR 48 (jar h (jfr h 294 r1) (ixn x2))]) okX8_gathers rfl rfl rfl rfl rfl rfl (jstp_static (sa := [vR 48 (jar h (jfr h 294 r1) (ixn x2))]) (st := [vI (jfi h 303 r1), vR 47 r1]) rfl rfl sX8_gathers okX8_gathers rfl rfl) w (fun v_17 h_15 _ _ w => ?_)
    refine jw_ior (pc' := 209) rfl ?_
    obtain ⟨g_18, w⟩ := w
    refine jw_putI' (pc' := 212) (F := 303) rfl rfl rfl (Or.inr rfl) (Or.inl rfl) rfl (g_18.nr) (g_18.ft) rfl g_1 (fun h_19 e_20 => ?_)
    replace w := w h_19 e_20
    refine jw_iinc (pc' := 215) (y := x2 + (1 : Int32)) (ls' := [some (vR 41 r0), some (vR 47 r1), some (vI (x2 + (1 : Int32))), none]) rfl (by decide) rfl rfl rfl ?_
    refine jw_goto (pc' := 186) rfl rfl ?_
    exact hK186 _ _ _ _ w
def L_X8_checkSelect_186 (D : JD) (d : Nat) (Q : JO → JH → Prop) : Nat → Nat → Nat → Int32 → JH → Prop
  | 0 => fun _ _ _ _ => False
  | n + 1 => fun r0 r1 x2 h => W_X8_checkSelect_186 D d Q (L_X8_checkSelect_186 D d Q n) r0 r1 x2 h
theorem l_X8_checkSelect_186 {D : JD} {d : Nat} {Q : JO → JH → Prop} : ∀ (n : Nat) (r0 : Nat) (r1 : Nat) (x2 : Int32) (h : JH), L_X8_checkSelect_186 D d Q n r0 r1 x2 h → JW D (d + 1) mX8_checkSelect 186 [some (vR 41 r0), some (vR 47 r1), some (vI x2), none] [] h Q := by
  intro n
  induction n with
  | zero => intro _ _ _ _ w; exact w.elim
  | succ n ih => intro _ _ _ h w; exact w_X8_checkSelect_186 ih w
def W_X8_checkSelect_152 (D : JD) (d : Nat) (Q : JO → JH → Prop) (K152 : Nat → Nat → Int32 → JH → Prop) (r0 : Nat) (r1 : Nat) (x2 : Int32) (h : JH) : Prop :=
  r1 ≠ 0 ∧ (((jfi h 285 r1) ≤ x2 → ∃ n, L_X8_checkSelect_186 D d Q n r0 r1 (0 : Int32) h) ∧ (¬ (jfi h 285 r1) ≤ x2 → (jfr h 284 r1) ≠ 0 ∧ jin x2 (jln h (jfr h 284 r1)) ∧ (cX8_gathers D d (jar h (jfr h 284 r1) (ixn x2)) h (pI D h (fun v_7 h_5 => jbo ((jfi h 303 r1) ||| v_7) ∧ ∀ h_9 : JH, h_9 = wfi h_5 303 r1 ((jfi h 303 r1) ||| v_7) → (K152 r0 r1 (x2 + (1 : Int32)) h_9)) (jth Q)))))
theorem w_X8_checkSelect_152 {D : JD} {d : Nat} {Q : JO → JH → Prop} {K152 : Nat → Nat → Int32 → JH → Prop} {r0 : Nat} {r1 : Nat} {x2 : Int32} {h : JH} (hK152 : ∀ (r0 : Nat) (r1 : Nat) (x2 : Int32) (h : JH), K152 r0 r1 x2 h → JW D (d + 1) mX8_checkSelect 152 [some (vR 41 r0), some (vR 47 r1), some (vI x2), none] [] h Q) (w : W_X8_checkSelect_152 D d Q K152 r0 r1 x2 h) : JW D (d + 1) mX8_checkSelect 152 [some (vR 41 r0), some (vR 47 r1), some (vI x2), none] [] h Q := by
  unfold W_X8_checkSelect_152 at w
  refine jw_iload_n (pc' := 153) rfl rfl ?_
  refine jw_aload_n (pc' := 154) rfl rfl ?_
  obtain ⟨g_1, w⟩ := w
  refine jw_getI (pc' := 157) (F := 285) rfl rfl rfl rfl g_1 ?_
  refine jw_icmp_ge (tgt := 184) (pc' := 160) rfl rfl (fun c_2 => ?_) (fun c_2 => ?_)
  · replace w := w.1 c_2
    refine jw_iconst (pc' := 185) (x := (0 : Int32)) rfl rfl ?_
    refine jw_istore_n (pc' := 186) (ls' := [some (vR 41 r0), some (vR 47 r1), some (vI (0 : Int32)), none]) rfl (by decide) rfl ?_
    obtain ⟨n, w⟩ := w
    exact l_X8_checkSelect_186 n _ _ _ _ w
  · replace w := w.2 c_2
    refine jw_aload_n (pc' := 161) rfl rfl ?_
    refine jw_dup (pc' := 162) rfl rfl ?_
    refine jw_getI (pc' := 165) (F := 303) rfl rfl rfl rfl g_1 ?_
    refine jw_aload_n (pc' := 166) rfl rfl ?_
    refine jw_getR (pc' := 169) (F := 284) (t' := 204) rfl rfl rfl rfl rfl g_1 ?_
    refine jw_iload_n (pc' := 170) rfl rfl ?_
    obtain ⟨g_3, w⟩ := w
    obtain ⟨g_4, w⟩ := w
    refine jw_aald (pc' := 171) (t' := 48) rfl rfl rfl rfl g_3 g_4.ix g_4.2 ?_
    refine jw_cI (st := [vI (jfi h 303 r1), vR 47 r1]) (sa := [vR 48 (jar h (jfr h 284 r1) (ixn x2))]) okX8_gathers rfl rfl rfl rfl rfl rfl (jstp_static (sa := [vR 48 (jar h (jfr h 284 r1) (ixn x2))]) (st := [vI (jfi h 303 r1), vR 47 r1]) rfl rfl sX8_gathers okX8_gathers rfl rfl) w (fun v_7 h_5 _ _ w => ?_)
    refine jw_ior (pc' := 175) rfl ?_
    obtain ⟨g_8, w⟩ := w
    refine jw_putI' (pc' := 178) (F := 303) rfl rfl rfl (Or.inr rfl) (Or.inl rfl) rfl (g_8.nr) (g_8.ft) rfl g_1 (fun h_9 e_10 => ?_)
    replace w := w h_9 e_10
    refine jw_iinc (pc' := 181) (y := x2 + (1 : Int32)) (ls' := [some (vR 41 r0), some (vR 47 r1), some (vI (x2 + (1 : Int32))), none]) rfl (by decide) rfl rfl rfl ?_
    refine jw_goto (pc' := 152) rfl rfl ?_
    exact hK152 _ _ _ _ w
def L_X8_checkSelect_152 (D : JD) (d : Nat) (Q : JO → JH → Prop) : Nat → Nat → Nat → Int32 → JH → Prop
  | 0 => fun _ _ _ _ => False
  | n + 1 => fun r0 r1 x2 h => W_X8_checkSelect_152 D d Q (L_X8_checkSelect_152 D d Q n) r0 r1 x2 h
theorem l_X8_checkSelect_152 {D : JD} {d : Nat} {Q : JO → JH → Prop} : ∀ (n : Nat) (r0 : Nat) (r1 : Nat) (x2 : Int32) (h : JH), L_X8_checkSelect_152 D d Q n r0 r1 x2 h → JW D (d + 1) mX8_checkSelect 152 [some (vR 41 r0), some (vR 47 r1), some (vI x2), none] [] h Q := by
  intro n
  induction n with
  | zero => intro _ _ _ _ w; exact w.elim
  | succ n ih => intro _ _ _ h w; exact w_X8_checkSelect_152 ih w
def W_X8_checkSelect_147 (D : JD) (d : Nat) (Q : JO → JH → Prop) (r0 : Nat) (r1 : Nat) (q0 : Nat) (s1 : Int32) (h : JH) : Prop :=
  q0 ≠ 0 ∧ jbo s1 ∧ ∀ h_3 : JH, h_3 = wfi h 303 q0 s1 → (∃ n, L_X8_checkSelect_152 D d Q n r0 r1 (0 : Int32) h_3)
theorem w_X8_checkSelect_147 {D : JD} {d : Nat} {Q : JO → JH → Prop} {r0 : Nat} {r1 : Nat} {q0 : Nat} {s1 : Int32} {h : JH} (w : W_X8_checkSelect_147 D d Q r0 r1 q0 s1 h) : JW D (d + 1) mX8_checkSelect 147 [some (vR 41 r0), some (vR 47 r1), none, none] [vI s1, vR 47 q0] h Q := by
  unfold W_X8_checkSelect_147 at w
  obtain ⟨g_1, w⟩ := w
  obtain ⟨g_2, w⟩ := w
  refine jw_putI' (pc' := 150) (F := 303) rfl rfl rfl (Or.inr rfl) (Or.inl rfl) rfl (g_2.nr) (g_2.ft) rfl g_1 (fun h_3 e_4 => ?_)
  replace w := w h_3 e_4
  refine jw_iconst (pc' := 151) (x := (0 : Int32)) rfl rfl ?_
  refine jw_istore_n (pc' := 152) (ls' := [some (vR 41 r0), some (vR 47 r1), some (vI (0 : Int32)), none]) rfl (by decide) rfl ?_
  obtain ⟨n, w⟩ := w
  exact l_X8_checkSelect_152 n _ _ _ _ w
def W_X8_checkSelect_142 (D : JD) (d : Nat) (Q : JO → JH → Prop) (r0 : Nat) (r1 : Nat) (q0 : Nat) (h : JH) : Prop :=
  W_X8_checkSelect_147 D d Q r0 r1 q0 (1 : Int32) h
theorem w_X8_checkSelect_142 {D : JD} {d : Nat} {Q : JO → JH → Prop} {r0 : Nat} {r1 : Nat} {q0 : Nat} {h : JH} (w : W_X8_checkSelect_142 D d Q r0 r1 q0 h) : JW D (d + 1) mX8_checkSelect 142 [some (vR 41 r0), some (vR 47 r1), none, none] [vR 47 q0] h Q := by
  unfold W_X8_checkSelect_142 at w
  refine jw_iconst (pc' := 143) (x := (1 : Int32)) rfl rfl ?_
  refine jw_goto (pc' := 147) rfl rfl ?_
  exact w_X8_checkSelect_147 w
def W_X8_checkSelect_102 (D : JD) (d : Nat) (Q : JO → JH → Prop) (K102 : Nat → Nat → Int32 → JH → Prop) (r0 : Nat) (r1 : Nat) (x2 : Int32) (h : JH) : Prop :=
  r1 ≠ 0 ∧ (((jfi h 292 r1) ≤ x2 → (0 < (jfi h 292 r1) → W_X8_checkSelect_142 D d Q r0 r1 r1 h) ∧ (¬ 0 < (jfi h 292 r1) → ((jfr h 293 r1) = 0 → W_X8_checkSelect_147 D d Q r0 r1 r1 (0 : Int32) h) ∧ ((jfr h 293 r1) ≠ 0 → W_X8_checkSelect_142 D d Q r0 r1 r1 h))) ∧ (¬ (jfi h 292 r1) ≤ x2 → (jfr h 291 r1) ≠ 0 ∧ jin x2 (jln h (jfr h 291 r1)) ∧ (r0 ≠ 0 ∧ (cX8_check_2 D d r0 (jar h (jfr h 291 r1) (ixn x2)) h (pI D h (fun v_10 h_8 => K102 r0 r1 (x2 + (1 : Int32)) h_8) (jth Q))))))
theorem w_X8_checkSelect_102 {D : JD} {d : Nat} {Q : JO → JH → Prop} {K102 : Nat → Nat → Int32 → JH → Prop} {r0 : Nat} {r1 : Nat} {x2 : Int32} {h : JH} (hK102 : ∀ (r0 : Nat) (r1 : Nat) (x2 : Int32) (h : JH), K102 r0 r1 x2 h → JW D (d + 1) mX8_checkSelect 102 [some (vR 41 r0), some (vR 47 r1), some (vI x2), none] [] h Q) (w : W_X8_checkSelect_102 D d Q K102 r0 r1 x2 h) : JW D (d + 1) mX8_checkSelect 102 [some (vR 41 r0), some (vR 47 r1), some (vI x2), none] [] h Q := by
  unfold W_X8_checkSelect_102 at w
  refine jw_iload_n (pc' := 103) rfl rfl ?_
  refine jw_aload_n (pc' := 104) rfl rfl ?_
  obtain ⟨g_1, w⟩ := w
  refine jw_getI (pc' := 107) (F := 292) rfl rfl rfl rfl g_1 ?_
  refine jw_icmp_ge (tgt := 127) (pc' := 110) rfl rfl (fun c_2 => ?_) (fun c_2 => ?_)
  · replace w := w.1 c_2
    refine jw_aload_n (pc' := 128) rfl rfl ?_
    refine jw_aload_n (pc' := 129) rfl rfl ?_
    refine jw_getI (pc' := 132) (F := 292) rfl rfl rfl rfl g_1 ?_
    refine jw_if_gt (tgt := 142) (pc' := 135) rfl rfl (fun c_3 => ?_) (fun c_3 => ?_)
    · replace w := w.1 c_3
      refine jw_gen (ls' := [some (vR 41 r0), some (vR 47 r1), none, none]) (st' := [vR 47 r1]) (And.intro (Or.inl rfl) (And.intro (Or.inl rfl) (trivial))) (And.intro (Or.inl rfl) (trivial)) ?_
      exact w_X8_checkSelect_142 w
    · replace w := w.2 c_3
      refine jw_aload_n (pc' := 136) rfl rfl ?_
      refine jw_getR (pc' := 139) (F := 293) (t' := 48) rfl rfl rfl rfl rfl g_1 ?_
      refine jw_ifnull (tgt := 146) (pc' := 142) rfl rfl (fun c_4 => ?_) (fun c_4 => ?_)
      · replace w := w.1 c_4
        refine jw_iconst (pc' := 147) (x := (0 : Int32)) rfl rfl ?_
        refine jw_gen (ls' := [some (vR 41 r0), some (vR 47 r1), none, none]) (st' := [vI (0 : Int32), vR 47 r1]) (And.intro (Or.inl rfl) (And.intro (Or.inl rfl) (trivial))) (And.intro (Or.inl rfl) (And.intro (Or.inl rfl) (trivial))) ?_
        exact w_X8_checkSelect_147 w
      · replace w := w.2 c_4
        refine jw_gen (ls' := [some (vR 41 r0), some (vR 47 r1), none, none]) (st' := [vR 47 r1]) (And.intro (Or.inl rfl) (And.intro (Or.inl rfl) (trivial))) (And.intro (Or.inl rfl) (trivial)) ?_
        exact w_X8_checkSelect_142 w
  · replace w := w.2 c_2
    refine jw_aload_n (pc' := 111) rfl rfl ?_
    refine jw_aload_n (pc' := 112) rfl rfl ?_
    refine jw_getR (pc' := 115) (F := 291) (t' := 209) rfl rfl rfl rfl rfl g_1 ?_
    refine jw_iload_n (pc' := 116) rfl rfl ?_
    obtain ⟨g_5, w⟩ := w
    obtain ⟨g_6, w⟩ := w
    refine jw_aald (pc' := 117) (t' := 48) rfl rfl rfl rfl g_5 g_6.ix g_6.2 ?_
    obtain ⟨g_7, w⟩ := w
    refine jw_cI (st := []) (sa := [vR 41 r0, vR 48 (jar h (jfr h 291 r1) (ixn x2))]) okX8_check_2 rfl rfl rfl rfl rfl rfl (jstp_virtual (sa := [vR 48 (jar h (jfr h 291 r1) (ixn x2))]) (st := []) (k := 0) rfl rfl sX8_check_2 okX8_check_2 g_7 (one41.k g_7) rfl rfl) w (fun v_10 h_8 _ _ w => ?_)
    refine jw_pop (pc' := 121) rfl rfl ?_
    refine jw_iinc (pc' := 124) (y := x2 + (1 : Int32)) (ls' := [some (vR 41 r0), some (vR 47 r1), some (vI (x2 + (1 : Int32))), none]) rfl (by decide) rfl rfl rfl ?_
    refine jw_goto (pc' := 102) rfl rfl ?_
    exact hK102 _ _ _ _ w
def L_X8_checkSelect_102 (D : JD) (d : Nat) (Q : JO → JH → Prop) : Nat → Nat → Nat → Int32 → JH → Prop
  | 0 => fun _ _ _ _ => False
  | n + 1 => fun r0 r1 x2 h => W_X8_checkSelect_102 D d Q (L_X8_checkSelect_102 D d Q n) r0 r1 x2 h
theorem l_X8_checkSelect_102 {D : JD} {d : Nat} {Q : JO → JH → Prop} : ∀ (n : Nat) (r0 : Nat) (r1 : Nat) (x2 : Int32) (h : JH), L_X8_checkSelect_102 D d Q n r0 r1 x2 h → JW D (d + 1) mX8_checkSelect 102 [some (vR 41 r0), some (vR 47 r1), some (vI x2), none] [] h Q := by
  intro n
  induction n with
  | zero => intro _ _ _ _ w; exact w.elim
  | succ n ih => intro _ _ _ h w; exact w_X8_checkSelect_102 ih w
def W_X8_checkSelect_57 (D : JD) (d : Nat) (Q : JO → JH → Prop) (K2 : Nat → Nat → Int32 → JH → Prop) (K28 : Nat → Nat → Int32 → Int32 → JH → Prop) (r0 : Nat) (r1 : Nat) (x2 : Int32) (x3 : Int32) (q0 : Nat) (s1 : Int32) (h : JH) : Prop :=
  q0 ≠ 0 ∧ (cX8_must D d q0 s1 (jcs D 321) h (pV D h (fun h_2 => K28 r0 r1 x2 (x3 + (1 : Int32)) h_2) (jth Q)))
theorem w_X8_checkSelect_57 {D : JD} {d : Nat} {Q : JO → JH → Prop} {K2 : Nat → Nat → Int32 → JH → Prop} {K28 : Nat → Nat → Int32 → Int32 → JH → Prop} {r0 : Nat} {r1 : Nat} {x2 : Int32} {x3 : Int32} {q0 : Nat} {s1 : Int32} {h : JH} (hK2 : ∀ (r0 : Nat) (r1 : Nat) (x2 : Int32) (h : JH), K2 r0 r1 x2 h → JW D (d + 1) mX8_checkSelect 2 [some (vR 41 r0), some (vR 47 r1), some (vI x2), none] [] h Q) (hK28 : ∀ (r0 : Nat) (r1 : Nat) (x2 : Int32) (x3 : Int32) (h : JH), K28 r0 r1 x2 x3 h → JW D (d + 1) mX8_checkSelect 28 [some (vR 41 r0), some (vR 47 r1), some (vI x2), some (vI x3)] [] h Q) (w : W_X8_checkSelect_57 D d Q K2 K28 r0 r1 x2 x3 q0 s1 h) : JW D (d + 1) mX8_checkSelect 57 [some (vR 41 r0), some (vR 47 r1), some (vI x2), some (vI x3)] [vI s1, vR 41 q0] h Q := by
  unfold W_X8_checkSelect_57 at w
  refine jw_ldcwS (pc' := 60) rfl rfl rfl rfl ?_
  obtain ⟨g_1, w⟩ := w
  refine jw_cV (st := []) (sa := [vR 41 q0, vI s1, vR 51 (jcs D 321)]) okX8_must rfl rfl rfl rfl rfl rfl (jstp_virtual (sa := [vI s1, vR 51 (jcs D 321)]) (st := []) (k := 0) rfl rfl sX8_must okX8_must g_1 (one41.k g_1) rfl rfl) w (fun h_2 _ _ w => ?_)
  refine jw_iinc (pc' := 66) (y := x3 + (1 : Int32)) (ls' := [some (vR 41 r0), some (vR 47 r1), some (vI x2), some (vI (x3 + (1 : Int32)))]) rfl (by decide) rfl rfl rfl ?_
  refine jw_goto (pc' := 28) rfl rfl ?_
  exact hK28 _ _ _ _ _ w
def W_X8_checkSelect_28 (D : JD) (d : Nat) (Q : JO → JH → Prop) (K2 : Nat → Nat → Int32 → JH → Prop) (K28 : Nat → Nat → Int32 → Int32 → JH → Prop) (r0 : Nat) (r1 : Nat) (x2 : Int32) (x3 : Int32) (h : JH) : Prop :=
  (x2 ≤ x3 → r0 ≠ 0 ∧ ∀ h_3 : JH, h_3 = wfi h 199 r0 (x2 + (1 : Int32)) → (r1 ≠ 0 ∧ ((jfr h_3 288 r1) ≠ 0 ∧ jin x2 (jln h_3 (jfr h_3 288 r1)) ∧ (cX8_condition D d r0 (jar h_3 (jfr h_3 288 r1) (ixn x2)) h_3 (pV D h_3 (fun h_8 => K2 r0 r1 (x2 + (1 : Int32)) h_8) (jth Q)))))) ∧ (¬ x2 ≤ x3 → r1 ≠ 0 ∧ ((jfr h 287 r1) ≠ 0 ∧ jin x3 (jln h (jfr h 287 r1)) ∧ (jin x2 (jln h (jfr h 287 r1)) ∧ ((jar h (jfr h 287 r1) (ixn x3)) ≠ 0 ∧ (cJ5_equals D d (jar h (jfr h 287 r1) (ixn x3)) (jar h (jfr h 287 r1) (ixn x2)) h (pI D h (fun v_18 h_16 => (¬ v_18 = 0 → W_X8_checkSelect_57 D d Q K2 K28 r0 r1 x2 x3 r0 (0 : Int32) h_16) ∧ (v_18 = 0 → W_X8_checkSelect_57 D d Q K2 K28 r0 r1 x2 x3 r0 (1 : Int32) h_16)) (jth Q)))))))
theorem w_X8_checkSelect_28 {D : JD} {d : Nat} {Q : JO → JH → Prop} {K2 : Nat → Nat → Int32 → JH → Prop} {K28 : Nat → Nat → Int32 → Int32 → JH → Prop} {r0 : Nat} {r1 : Nat} {x2 : Int32} {x3 : Int32} {h : JH} (hK2 : ∀ (r0 : Nat) (r1 : Nat) (x2 : Int32) (h : JH), K2 r0 r1 x2 h → JW D (d + 1) mX8_checkSelect 2 [some (vR 41 r0), some (vR 47 r1), some (vI x2), none] [] h Q) (hK28 : ∀ (r0 : Nat) (r1 : Nat) (x2 : Int32) (x3 : Int32) (h : JH), K28 r0 r1 x2 x3 h → JW D (d + 1) mX8_checkSelect 28 [some (vR 41 r0), some (vR 47 r1), some (vI x2), some (vI x3)] [] h Q) (w : W_X8_checkSelect_28 D d Q K2 K28 r0 r1 x2 x3 h) : JW D (d + 1) mX8_checkSelect 28 [some (vR 41 r0), some (vR 47 r1), some (vI x2), some (vI x3)] [] h Q := by
  unfold W_X8_checkSelect_28 at w
  refine jw_iload_n (pc' := 29) rfl rfl ?_
  refine jw_iload_n (pc' := 30) rfl rfl ?_
  refine jw_icmp_ge (tgt := 69) (pc' := 33) rfl rfl (fun c_1 => ?_) (fun c_1 => ?_)
  · replace w := w.1 c_1
    refine jw_aload_n (pc' := 70) rfl rfl ?_
    refine jw_iload_n (pc' := 71) rfl rfl ?_
    refine jw_iconst (pc' := 72) (x := (1 : Int32)) rfl rfl ?_
    refine jw_iadd (pc' := 73) rfl ?_
    obtain ⟨g_2, w⟩ := w
    refine jw_putI' (pc' := 76) (F := 199) rfl rfl rfl (Or.inr rfl) (Or.inl rfl) rfl (rfl) (rfl) rfl g_2 (fun h_3 e_4 => ?_)
    replace w := w h_3 e_4
    refine jw_aload_n (pc' := 77) rfl rfl ?_
    refine jw_aload_n (pc' := 78) rfl rfl ?_
    obtain ⟨g_5, w⟩ := w
    refine jw_getR (pc' := 81) (F := 288) (t' := 207) rfl rfl rfl rfl rfl g_5 ?_
    refine jw_iload_n (pc' := 82) rfl rfl ?_
    obtain ⟨g_6, w⟩ := w
    obtain ⟨g_7, w⟩ := w
    refine jw_aald (pc' := 83) (t' := 48) rfl rfl rfl rfl g_6 g_7.ix g_7.2 ?_
    refine jw_cV (st := []) (sa := [vR 41 r0, vR 48 (jar h_3 (jfr h_3 288 r1) (ixn x2))]) okX8_condition rfl rfl rfl rfl rfl rfl (jstp_virtual (sa := [vR 48 (jar h_3 (jfr h_3 288 r1) (ixn x2))]) (st := []) (k := 0) rfl rfl sX8_condition okX8_condition g_2 (one41.k g_2) rfl rfl) w (fun h_8 _ _ w => ?_)
    refine jw_iinc (pc' := 89) (y := x2 + (1 : Int32)) (ls' := [some (vR 41 r0), some (vR 47 r1), some (vI (x2 + (1 : Int32))), some (vI x3)]) rfl (by decide) rfl rfl rfl ?_
    refine jw_goto (pc' := 2) rfl rfl ?_
    refine jw_gen (ls' := [some (vR 41 r0), some (vR 47 r1), some (vI (x2 + (1 : Int32))), none]) (st' := []) (And.intro (Or.inl rfl) (And.intro (Or.inl rfl) (And.intro (Or.inl rfl) (trivial)))) (trivial) ?_
    exact hK2 _ _ _ _ w
  · replace w := w.2 c_1
    refine jw_aload_n (pc' := 34) rfl rfl ?_
    refine jw_aload_n (pc' := 35) rfl rfl ?_
    obtain ⟨g_11, w⟩ := w
    refine jw_getR (pc' := 38) (F := 287) (t' := 206) rfl rfl rfl rfl rfl g_11 ?_
    refine jw_iload_n (pc' := 39) rfl rfl ?_
    obtain ⟨g_12, w⟩ := w
    obtain ⟨g_13, w⟩ := w
    refine jw_aald (pc' := 40) (t' := 64) rfl rfl rfl rfl g_12 g_13.ix g_13.2 ?_
    refine jw_aload_n (pc' := 41) rfl rfl ?_
    refine jw_getR (pc' := 44) (F := 287) (t' := 206) rfl rfl rfl rfl rfl g_11 ?_
    refine jw_iload_n (pc' := 45) rfl rfl ?_
    obtain ⟨g_14, w⟩ := w
    refine jw_aald (pc' := 46) (t' := 64) rfl rfl rfl rfl g_12 g_14.ix g_14.2 ?_
    obtain ⟨g_15, w⟩ := w
    refine jw_cI (st := [vR 41 r0]) (sa := [vR 64 (jar h (jfr h 287 r1) (ixn x3)), vR 64 (jar h (jfr h 287 r1) (ixn x2))]) okJ5_equals rfl rfl rfl rfl rfl rfl (jstp_virtual (sa := [vR 64 (jar h (jfr h 287 r1) (ixn x2))]) (st := [vR 41 r0]) (k := 0) rfl rfl sJ5_equals okJ5_equals g_15 (one64.k g_15) rfl rfl) w (fun v_18 h_16 _ _ w => ?_)
    refine jw_if_ne (tgt := 56) (pc' := 52) rfl rfl (fun c_19 => ?_) (fun c_19 => ?_)
    · replace w := w.1 c_19
      refine jw_iconst (pc' := 57) (x := (0 : Int32)) rfl rfl ?_
      exact w_X8_checkSelect_57 hK2 hK28 w
    · replace w := w.2 c_19
      refine jw_iconst (pc' := 53) (x := (1 : Int32)) rfl rfl ?_
      refine jw_goto (pc' := 57) rfl rfl ?_
      exact w_X8_checkSelect_57 hK2 hK28 w
def L_X8_checkSelect_28 (D : JD) (d : Nat) (Q : JO → JH → Prop) (K2 : Nat → Nat → Int32 → JH → Prop) : Nat → Nat → Nat → Int32 → Int32 → JH → Prop
  | 0 => fun _ _ _ _ _ => False
  | n + 1 => fun r0 r1 x2 x3 h => W_X8_checkSelect_28 D d Q K2 (L_X8_checkSelect_28 D d Q K2 n) r0 r1 x2 x3 h
theorem l_X8_checkSelect_28 {D : JD} {d : Nat} {Q : JO → JH → Prop} {K2 : Nat → Nat → Int32 → JH → Prop} (hK2 : ∀ (r0 : Nat) (r1 : Nat) (x2 : Int32) (h : JH), K2 r0 r1 x2 h → JW D (d + 1) mX8_checkSelect 2 [some (vR 41 r0), some (vR 47 r1), some (vI x2), none] [] h Q) : ∀ (n : Nat) (r0 : Nat) (r1 : Nat) (x2 : Int32) (x3 : Int32) (h : JH), L_X8_checkSelect_28 D d Q K2 n r0 r1 x2 x3 h → JW D (d + 1) mX8_checkSelect 28 [some (vR 41 r0), some (vR 47 r1), some (vI x2), some (vI x3)] [] h Q := by
  intro n
  induction n with
  | zero => intro _ _ _ _ _ w; exact w.elim
  | succ n ih => intro _ _ _ _ h w; exact w_X8_checkSelect_28 hK2 ih w
def W_X8_checkSelect_2 (D : JD) (d : Nat) (Q : JO → JH → Prop) (K2 : Nat → Nat → Int32 → JH → Prop) (r0 : Nat) (r1 : Nat) (x2 : Int32) (h : JH) : Prop :=
  r1 ≠ 0 ∧ (((jfi h 290 r1) ≤ x2 → r0 ≠ 0 ∧ (cX8_condition D d r0 (jfr h 282 r1) h (pV D h (fun h_4 => ∃ n, L_X8_checkSelect_102 D d Q n r0 r1 (0 : Int32) h_4) (jth Q)))) ∧ (¬ (jfi h 290 r1) ≤ x2 → r0 ≠ 0 ∧ ((jfr h 286 r1) ≠ 0 ∧ jin x2 (jln h (jfr h 286 r1)) ∧ (cX8_table D d r0 (jar h (jfr h 286 r1) (ixn x2)) h (pR D h 44 (fun v_12 h_10 => (jfr h 200 r0) ≠ 0 ∧ jin x2 (jln h_10 (jfr h 200 r0)) ∧ ∀ h_15 : JH, h_15 = war h_10 (jfr h 200 r0) (ixn x2) v_12 → (∃ n, L_X8_checkSelect_28 D d Q K2 n r0 r1 x2 (0 : Int32) h_15)) (jth Q))))))
theorem w_X8_checkSelect_2 {D : JD} {d : Nat} {Q : JO → JH → Prop} {K2 : Nat → Nat → Int32 → JH → Prop} {r0 : Nat} {r1 : Nat} {x2 : Int32} {h : JH} (hK2 : ∀ (r0 : Nat) (r1 : Nat) (x2 : Int32) (h : JH), K2 r0 r1 x2 h → JW D (d + 1) mX8_checkSelect 2 [some (vR 41 r0), some (vR 47 r1), some (vI x2), none] [] h Q) (w : W_X8_checkSelect_2 D d Q K2 r0 r1 x2 h) : JW D (d + 1) mX8_checkSelect 2 [some (vR 41 r0), some (vR 47 r1), some (vI x2), none] [] h Q := by
  unfold W_X8_checkSelect_2 at w
  refine jw_iload_n (pc' := 3) rfl rfl ?_
  refine jw_aload_n (pc' := 4) rfl rfl ?_
  obtain ⟨g_1, w⟩ := w
  refine jw_getI (pc' := 7) (F := 290) rfl rfl rfl rfl g_1 ?_
  refine jw_icmp_ge (tgt := 92) (pc' := 10) rfl rfl (fun c_2 => ?_) (fun c_2 => ?_)
  · replace w := w.1 c_2
    refine jw_aload_n (pc' := 93) rfl rfl ?_
    refine jw_aload_n (pc' := 94) rfl rfl ?_
    refine jw_getR (pc' := 97) (F := 282) (t' := 48) rfl rfl rfl rfl rfl g_1 ?_
    obtain ⟨g_3, w⟩ := w
    refine jw_cV (st := []) (sa := [vR 41 r0, vR 48 (jfr h 282 r1)]) okX8_condition rfl rfl rfl rfl rfl rfl (jstp_virtual (sa := [vR 48 (jfr h 282 r1)]) (st := []) (k := 0) rfl rfl sX8_condition okX8_condition g_3 (one41.k g_3) rfl rfl) w (fun h_4 _ _ w => ?_)
    refine jw_iconst (pc' := 101) (x := (0 : Int32)) rfl rfl ?_
    refine jw_istore_n (pc' := 102) (ls' := [some (vR 41 r0), some (vR 47 r1), some (vI (0 : Int32)), none]) rfl (by decide) rfl ?_
    obtain ⟨n, w⟩ := w
    exact l_X8_checkSelect_102 n _ _ _ _ w
  · replace w := w.2 c_2
    refine jw_aload_n (pc' := 11) rfl rfl ?_
    obtain ⟨g_7, w⟩ := w
    refine jw_getR (pc' := 14) (F := 200) (t' := 167) rfl rfl rfl rfl rfl g_7 ?_
    refine jw_iload_n (pc' := 15) rfl rfl ?_
    refine jw_aload_n (pc' := 16) rfl rfl ?_
    refine jw_aload_n (pc' := 17) rfl rfl ?_
    refine jw_getR (pc' := 20) (F := 286) (t' := 205) rfl rfl rfl rfl rfl g_1 ?_
    refine jw_iload_n (pc' := 21) rfl rfl ?_
    obtain ⟨g_8, w⟩ := w
    obtain ⟨g_9, w⟩ := w
    refine jw_aald (pc' := 22) (t' := 64) rfl rfl rfl rfl g_8 g_9.ix g_9.2 ?_
    refine jw_cR (st := [vI x2, vR 167 (jfr h 200 r0)]) (sa := [vR 41 r0, vR 64 (jar h (jfr h 286 r1) (ixn x2))]) okX8_table rfl rfl rfl rfl rfl rfl (jstp_virtual (sa := [vR 64 (jar h (jfr h 286 r1) (ixn x2))]) (st := [vI x2, vR 167 (jfr h 200 r0)]) (k := 0) rfl rfl sX8_table okX8_table g_7 (one41.k g_7) rfl rfl) w (fun v_12 h_10 _ _ _ w => ?_)
    obtain ⟨g_13, w⟩ := w
    obtain ⟨g_14, w⟩ := w
    refine jw_aast' (pc' := 26) rfl rfl rfl rfl rfl rfl g_13 g_14 (fun h_15 e_16 => ?_)
    replace w := w h_15 e_16
    refine jw_iconst (pc' := 27) (x := (0 : Int32)) rfl rfl ?_
    refine jw_istore_n (pc' := 28) (ls' := [some (vR 41 r0), some (vR 47 r1), some (vI x2), some (vI (0 : Int32))]) rfl (by decide) rfl ?_
    obtain ⟨n, w⟩ := w
    exact l_X8_checkSelect_28 hK2 n _ _ _ _ _ w
def L_X8_checkSelect_2 (D : JD) (d : Nat) (Q : JO → JH → Prop) : Nat → Nat → Nat → Int32 → JH → Prop
  | 0 => fun _ _ _ _ => False
  | n + 1 => fun r0 r1 x2 h => W_X8_checkSelect_2 D d Q (L_X8_checkSelect_2 D d Q n) r0 r1 x2 h
theorem l_X8_checkSelect_2 {D : JD} {d : Nat} {Q : JO → JH → Prop} : ∀ (n : Nat) (r0 : Nat) (r1 : Nat) (x2 : Int32) (h : JH), L_X8_checkSelect_2 D d Q n r0 r1 x2 h → JW D (d + 1) mX8_checkSelect 2 [some (vR 41 r0), some (vR 47 r1), some (vI x2), none] [] h Q := by
  intro n
  induction n with
  | zero => intro _ _ _ _ w; exact w.elim
  | succ n ih => intro _ _ _ h w; exact w_X8_checkSelect_2 ih w
def W_X8_checkSelect_0 (D : JD) (d : Nat) (Q : JO → JH → Prop) (r0 : Nat) (r1 : Nat) (h : JH) : Prop :=
  ∃ n, L_X8_checkSelect_2 D d Q n r0 r1 (0 : Int32) h
theorem w_X8_checkSelect_0 {D : JD} {d : Nat} {Q : JO → JH → Prop} {r0 : Nat} {r1 : Nat} {h : JH} (w : W_X8_checkSelect_0 D d Q r0 r1 h) : JW D (d + 1) mX8_checkSelect 0 [some (vR 41 r0), some (vR 47 r1), none, none] [] h Q := by
  unfold W_X8_checkSelect_0 at w
  refine jw_iconst (pc' := 1) (x := (0 : Int32)) rfl rfl ?_
  refine jw_istore_n (pc' := 2) (ls' := [some (vR 41 r0), some (vR 47 r1), some (vI (0 : Int32)), none]) rfl (by decide) rfl ?_
  obtain ⟨n, w⟩ := w
  exact l_X8_checkSelect_2 n _ _ _ _ w
def T_X8_checkSelect (D : JD) (d : Nat) (Q : JO → JH → Prop) (r0 : Nat) (r1 : Nat) (h : JH) : Prop := W_X8_checkSelect_0 D d Q r0 r1 h
theorem t_X8_checkSelect {D : JD} {d : Nat} {Q : JO → JH → Prop} {r0 : Nat} {r1 : Nat} {h : JH} (w : T_X8_checkSelect D d Q r0 r1 h) : cX8_checkSelect D (d + 1) r0 r1 h Q := by
  unfold T_X8_checkSelect at w
  unfold cX8_checkSelect
  exact w_X8_checkSelect_0 w
def W_X8_gathers_25 (D : JD) (d : Nat) (Q : JO → JH → Prop) (K25 : Nat → Int32 → JH → Prop) (r0 : Nat) (x1 : Int32) (h : JH) : Prop :=
  r0 ≠ 0 ∧ (((jfi h 311 r0) ≤ x1 → Q (.inl (some (vI (0 : Int32)))) h) ∧ (¬ (jfi h 311 r0) ≤ x1 → (jfr h 310 r0) ≠ 0 ∧ jin x1 (jln h (jfr h 310 r0)) ∧ (cX8_gathers D d (jar h (jfr h 310 r0) (ixn x1)) h (pI D h (fun v_7 h_5 => (v_7 = 0 → K25 r0 (x1 + (1 : Int32)) h_5) ∧ (¬ v_7 = 0 → Q (.inl (some (vI (1 : Int32)))) h_5)) (jth Q)))))
theorem w_X8_gathers_25 {D : JD} {d : Nat} {Q : JO → JH → Prop} {K25 : Nat → Int32 → JH → Prop} {r0 : Nat} {x1 : Int32} {h : JH} (hK25 : ∀ (r0 : Nat) (x1 : Int32) (h : JH), K25 r0 x1 h → JW D (d + 1) mX8_gathers 25 [some (vR 48 r0), some (vI x1)] [] h Q) (w : W_X8_gathers_25 D d Q K25 r0 x1 h) : JW D (d + 1) mX8_gathers 25 [some (vR 48 r0), some (vI x1)] [] h Q := by
  unfold W_X8_gathers_25 at w
  refine jw_iload_n (pc' := 26) rfl rfl ?_
  refine jw_aload_n (pc' := 27) rfl rfl ?_
  obtain ⟨g_1, w⟩ := w
  refine jw_getI (pc' := 30) (F := 311) rfl rfl rfl rfl g_1 ?_
  refine jw_icmp_ge (tgt := 53) (pc' := 33) rfl rfl (fun c_2 => ?_) (fun c_2 => ?_)
  · replace w := w.1 c_2
    refine jw_iconst (pc' := 54) (x := (0 : Int32)) rfl rfl ?_
    exact jw_ireturn rfl rfl (rfl) w
  · replace w := w.2 c_2
    refine jw_aload_n (pc' := 34) rfl rfl ?_
    refine jw_getR (pc' := 37) (F := 310) (t' := 215) rfl rfl rfl rfl rfl g_1 ?_
    refine jw_iload_n (pc' := 38) rfl rfl ?_
    obtain ⟨g_3, w⟩ := w
    obtain ⟨g_4, w⟩ := w
    refine jw_aald (pc' := 39) (t' := 48) rfl rfl rfl rfl g_3 g_4.ix g_4.2 ?_
    refine jw_cI (st := []) (sa := [vR 48 (jar h (jfr h 310 r0) (ixn x1))]) okX8_gathers rfl rfl rfl rfl rfl rfl (jstp_static (sa := [vR 48 (jar h (jfr h 310 r0) (ixn x1))]) (st := []) rfl rfl sX8_gathers okX8_gathers rfl rfl) w (fun v_7 h_5 _ _ w => ?_)
    refine jw_if_eq (tgt := 47) (pc' := 45) rfl rfl (fun c_8 => ?_) (fun c_8 => ?_)
    · replace w := w.1 c_8
      refine jw_iinc (pc' := 50) (y := x1 + (1 : Int32)) (ls' := [some (vR 48 r0), some (vI (x1 + (1 : Int32)))]) rfl (by decide) rfl rfl rfl ?_
      refine jw_goto (pc' := 25) rfl rfl ?_
      exact hK25 _ _ _ w
    · replace w := w.2 c_8
      refine jw_iconst (pc' := 46) (x := (1 : Int32)) rfl rfl ?_
      exact jw_ireturn rfl rfl (rfl) w
def L_X8_gathers_25 (D : JD) (d : Nat) (Q : JO → JH → Prop) : Nat → Nat → Int32 → JH → Prop
  | 0 => fun _ _ _ => False
  | n + 1 => fun r0 x1 h => W_X8_gathers_25 D d Q (L_X8_gathers_25 D d Q n) r0 x1 h
theorem l_X8_gathers_25 {D : JD} {d : Nat} {Q : JO → JH → Prop} : ∀ (n : Nat) (r0 : Nat) (x1 : Int32) (h : JH), L_X8_gathers_25 D d Q n r0 x1 h → JW D (d + 1) mX8_gathers 25 [some (vR 48 r0), some (vI x1)] [] h Q := by
  intro n
  induction n with
  | zero => intro _ _ _ w; exact w.elim
  | succ n ih => intro _ _ h w; exact w_X8_gathers_25 ih w
def W_X8_gathers_23 (D : JD) (d : Nat) (Q : JO → JH → Prop) (r0 : Nat) (h : JH) : Prop :=
  ∃ n, L_X8_gathers_25 D d Q n r0 (0 : Int32) h
theorem w_X8_gathers_23 {D : JD} {d : Nat} {Q : JO → JH → Prop} {r0 : Nat} {h : JH} (w : W_X8_gathers_23 D d Q r0 h) : JW D (d + 1) mX8_gathers 23 [some (vR 48 r0), none] [] h Q := by
  unfold W_X8_gathers_23 at w
  refine jw_iconst (pc' := 24) (x := (0 : Int32)) rfl rfl ?_
  refine jw_istore_n (pc' := 25) (ls' := [some (vR 48 r0), some (vI (0 : Int32))]) rfl (by decide) rfl ?_
  obtain ⟨n, w⟩ := w
  exact l_X8_gathers_25 n _ _ _ w
def W_X8_gathers_0 (D : JD) (d : Nat) (Q : JO → JH → Prop) (r0 : Nat) (h : JH) : Prop :=
  (r0 ≠ 0 → (¬ (jfi h 305 r0) = (3 : Int32) → W_X8_gathers_23 D d Q r0 h) ∧ ((jfi h 305 r0) = (3 : Int32) → cX8_isGather D d r0 h (pI D h (fun v_5 h_3 => (v_5 = 0 → W_X8_gathers_23 D d Q r0 h_3) ∧ (¬ v_5 = 0 → Q (.inl (some (vI (1 : Int32)))) h_3)) (jth Q)))) ∧ (r0 = 0 → Q (.inl (some (vI (0 : Int32)))) h)
theorem w_X8_gathers_0 {D : JD} {d : Nat} {Q : JO → JH → Prop} {r0 : Nat} {h : JH} (w : W_X8_gathers_0 D d Q r0 h) : JW D (d + 1) mX8_gathers 0 [some (vR 48 r0), none] [] h Q := by
  unfold W_X8_gathers_0 at w
  refine jw_aload_n (pc' := 1) rfl rfl ?_
  refine jw_ifnonnull (tgt := 6) (pc' := 4) rfl rfl (fun c_1 => ?_) (fun c_1 => ?_)
  · replace w := w.1 c_1
    refine jw_aload_n (pc' := 7) rfl rfl ?_
    refine jw_getI (pc' := 10) (F := 305) rfl rfl rfl rfl c_1 ?_
    refine jw_iconst (pc' := 11) (x := (3 : Int32)) rfl rfl ?_
    refine jw_icmp_ne (tgt := 23) (pc' := 14) rfl rfl (fun c_2 => ?_) (fun c_2 => ?_)
    · replace w := w.1 c_2
      exact w_X8_gathers_23 w
    · replace w := w.2 c_2
      refine jw_aload_n (pc' := 15) rfl rfl ?_
      refine jw_cI (st := []) (sa := [vR 48 r0]) okX8_isGather rfl rfl rfl rfl rfl rfl (jstp_static (sa := [vR 48 r0]) (st := []) rfl rfl sX8_isGather okX8_isGather rfl rfl) w (fun v_5 h_3 _ _ w => ?_)
      refine jw_if_eq (tgt := 23) (pc' := 21) rfl rfl (fun c_6 => ?_) (fun c_6 => ?_)
      · replace w := w.1 c_6
        exact w_X8_gathers_23 w
      · replace w := w.2 c_6
        refine jw_iconst (pc' := 22) (x := (1 : Int32)) rfl rfl ?_
        exact jw_ireturn rfl rfl (rfl) w
  · replace w := w.2 c_1
    refine jw_iconst (pc' := 5) (x := (0 : Int32)) rfl rfl ?_
    exact jw_ireturn rfl rfl (rfl) w
def T_X8_gathers (D : JD) (d : Nat) (Q : JO → JH → Prop) (r0 : Nat) (h : JH) : Prop := W_X8_gathers_0 D d Q r0 h
theorem t_X8_gathers {D : JD} {d : Nat} {Q : JO → JH → Prop} {r0 : Nat} {h : JH} (w : T_X8_gathers D d Q r0 h) : cX8_gathers D (d + 1) r0 h Q := by
  unfold T_X8_gathers at w
  unfold cX8_gathers
  exact w_X8_gathers_0 w
def W_X8_apart_22 (D : JD) (d : Nat) (Q : JO → JH → Prop) (h : JH) : Prop :=
  Q (.inl none) h
theorem w_X8_apart_22 {D : JD} {d : Nat} {Q : JO → JH → Prop} {h : JH} (w : W_X8_apart_22 D d Q h) : JW D (d + 1) mX8_apart 22 [none, none, none, none] [] h Q := by
  unfold W_X8_apart_22 at w
  exact jw_return rfl rfl w
def W_X8_apart_75 (D : JD) (d : Nat) (Q : JO → JH → Prop) (K75 : Nat → Nat → Nat → Int32 → JH → Prop) (r0 : Nat) (r1 : Nat) (r2 : Nat) (x3 : Int32) (h : JH) : Prop :=
  r2 ≠ 0 ∧ (((jfi h 311 r2) ≤ x3 → Q (.inl none) h) ∧ (¬ (jfi h 311 r2) ≤ x3 → (jfr h 310 r2) ≠ 0 ∧ jin x3 (jln h (jfr h 310 r2)) ∧ (r0 ≠ 0 ∧ (cX8_apart D d r0 r1 (jar h (jfr h 310 r2) (ixn x3)) h (pV D h (fun h_6 => K75 r0 r1 r2 (x3 + (1 : Int32)) h_6) (jth Q))))))
theorem w_X8_apart_75 {D : JD} {d : Nat} {Q : JO → JH → Prop} {K75 : Nat → Nat → Nat → Int32 → JH → Prop} {r0 : Nat} {r1 : Nat} {r2 : Nat} {x3 : Int32} {h : JH} (hK75 : ∀ (r0 : Nat) (r1 : Nat) (r2 : Nat) (x3 : Int32) (h : JH), K75 r0 r1 r2 x3 h → JW D (d + 1) mX8_apart 75 [some (vR 41 r0), some (vR 47 r1), some (vR 48 r2), some (vI x3)] [] h Q) (w : W_X8_apart_75 D d Q K75 r0 r1 r2 x3 h) : JW D (d + 1) mX8_apart 75 [some (vR 41 r0), some (vR 47 r1), some (vR 48 r2), some (vI x3)] [] h Q := by
  unfold W_X8_apart_75 at w
  refine jw_iload_n (pc' := 76) rfl rfl ?_
  refine jw_aload_n (pc' := 77) rfl rfl ?_
  obtain ⟨g_1, w⟩ := w
  refine jw_getI (pc' := 80) (F := 311) rfl rfl rfl rfl g_1 ?_
  refine jw_icmp_ge (tgt := 100) (pc' := 83) rfl rfl (fun c_2 => ?_) (fun c_2 => ?_)
  · replace w := w.1 c_2
    exact jw_return rfl rfl w
  · replace w := w.2 c_2
    refine jw_aload_n (pc' := 84) rfl rfl ?_
    refine jw_aload_n (pc' := 85) rfl rfl ?_
    refine jw_aload_n (pc' := 86) rfl rfl ?_
    refine jw_getR (pc' := 89) (F := 310) (t' := 215) rfl rfl rfl rfl rfl g_1 ?_
    refine jw_iload_n (pc' := 90) rfl rfl ?_
    obtain ⟨g_3, w⟩ := w
    obtain ⟨g_4, w⟩ := w
    refine jw_aald (pc' := 91) (t' := 48) rfl rfl rfl rfl g_3 g_4.ix g_4.2 ?_
    obtain ⟨g_5, w⟩ := w
    refine jw_cV (st := []) (sa := [vR 41 r0, vR 47 r1, vR 48 (jar h (jfr h 310 r2) (ixn x3))]) okX8_apart rfl rfl rfl rfl rfl rfl (jstp_virtual (sa := [vR 47 r1, vR 48 (jar h (jfr h 310 r2) (ixn x3))]) (st := []) (k := 0) rfl rfl sX8_apart okX8_apart g_5 (one41.k g_5) rfl rfl) w (fun h_6 _ _ w => ?_)
    refine jw_iinc (pc' := 97) (y := x3 + (1 : Int32)) (ls' := [some (vR 41 r0), some (vR 47 r1), some (vR 48 r2), some (vI (x3 + (1 : Int32)))]) rfl (by decide) rfl rfl rfl ?_
    refine jw_goto (pc' := 75) rfl rfl ?_
    exact hK75 _ _ _ _ _ w
def L_X8_apart_75 (D : JD) (d : Nat) (Q : JO → JH → Prop) : Nat → Nat → Nat → Nat → Int32 → JH → Prop
  | 0 => fun _ _ _ _ _ => False
  | n + 1 => fun r0 r1 r2 x3 h => W_X8_apart_75 D d Q (L_X8_apart_75 D d Q n) r0 r1 r2 x3 h
theorem l_X8_apart_75 {D : JD} {d : Nat} {Q : JO → JH → Prop} : ∀ (n : Nat) (r0 : Nat) (r1 : Nat) (r2 : Nat) (x3 : Int32) (h : JH), L_X8_apart_75 D d Q n r0 r1 r2 x3 h → JW D (d + 1) mX8_apart 75 [some (vR 41 r0), some (vR 47 r1), some (vR 48 r2), some (vI x3)] [] h Q := by
  intro n
  induction n with
  | zero => intro _ _ _ _ _ w; exact w.elim
  | succ n ih => intro _ _ _ _ h w; exact w_X8_apart_75 ih w
def W_X8_apart_67 (D : JD) (d : Nat) (Q : JO → JH → Prop) (r0 : Nat) (r1 : Nat) (r2 : Nat) (q0 : Nat) (s1 : Int32) (h : JH) : Prop :=
  q0 ≠ 0 ∧ (cX8_must D d q0 s1 (jcs D 319) h (pV D h (fun h_2 => ∃ n, L_X8_apart_75 D d Q n r0 r1 r2 (0 : Int32) h_2) (jth Q)))
theorem w_X8_apart_67 {D : JD} {d : Nat} {Q : JO → JH → Prop} {r0 : Nat} {r1 : Nat} {r2 : Nat} {q0 : Nat} {s1 : Int32} {h : JH} (w : W_X8_apart_67 D d Q r0 r1 r2 q0 s1 h) : JW D (d + 1) mX8_apart 67 [some (vR 41 r0), some (vR 47 r1), some (vR 48 r2), none] [vI s1, vR 41 q0] h Q := by
  unfold W_X8_apart_67 at w
  refine jw_ldcwS (pc' := 70) rfl rfl rfl rfl ?_
  obtain ⟨g_1, w⟩ := w
  refine jw_cV (st := []) (sa := [vR 41 q0, vI s1, vR 51 (jcs D 319)]) okX8_must rfl rfl rfl rfl rfl rfl (jstp_virtual (sa := [vI s1, vR 51 (jcs D 319)]) (st := []) (k := 0) rfl rfl sX8_must okX8_must g_1 (one41.k g_1) rfl rfl) w (fun h_2 _ _ w => ?_)
  refine jw_iconst (pc' := 74) (x := (0 : Int32)) rfl rfl ?_
  refine jw_istore_n (pc' := 75) (ls' := [some (vR 41 r0), some (vR 47 r1), some (vR 48 r2), some (vI (0 : Int32))]) rfl (by decide) rfl ?_
  obtain ⟨n, w⟩ := w
  exact l_X8_apart_75 n _ _ _ _ _ w
def W_X8_apart_25 (D : JD) (d : Nat) (Q : JO → JH → Prop) (K25 : Nat → Nat → Nat → Int32 → JH → Prop) (r0 : Nat) (r1 : Nat) (r2 : Nat) (x3 : Int32) (h : JH) : Prop :=
  r1 ≠ 0 ∧ (((jfi h 292 r1) ≤ x3 → r2 ≠ 0 ∧ (((jfi h 305 r2) = (2 : Int32) → W_X8_apart_67 D d Q r0 r1 r2 r0 (0 : Int32) h) ∧ (¬ (jfi h 305 r2) = (2 : Int32) → W_X8_apart_67 D d Q r0 r1 r2 r0 (1 : Int32) h))) ∧ (¬ (jfi h 292 r1) ≤ x3 → (jfr h 291 r1) ≠ 0 ∧ jin x3 (jln h (jfr h 291 r1)) ∧ (cX8_equal D d r2 (jar h (jfr h 291 r1) (ixn x3)) h (pI D h (fun v_9 h_7 => (v_9 = 0 → K25 r0 r1 r2 (x3 + (1 : Int32)) h_7) ∧ (¬ v_9 = 0 → Q (.inl none) h_7)) (jth Q)))))
theorem w_X8_apart_25 {D : JD} {d : Nat} {Q : JO → JH → Prop} {K25 : Nat → Nat → Nat → Int32 → JH → Prop} {r0 : Nat} {r1 : Nat} {r2 : Nat} {x3 : Int32} {h : JH} (hK25 : ∀ (r0 : Nat) (r1 : Nat) (r2 : Nat) (x3 : Int32) (h : JH), K25 r0 r1 r2 x3 h → JW D (d + 1) mX8_apart 25 [some (vR 41 r0), some (vR 47 r1), some (vR 48 r2), some (vI x3)] [] h Q) (w : W_X8_apart_25 D d Q K25 r0 r1 r2 x3 h) : JW D (d + 1) mX8_apart 25 [some (vR 41 r0), some (vR 47 r1), some (vR 48 r2), some (vI x3)] [] h Q := by
  unfold W_X8_apart_25 at w
  refine jw_iload_n (pc' := 26) rfl rfl ?_
  refine jw_aload_n (pc' := 27) rfl rfl ?_
  obtain ⟨g_1, w⟩ := w
  refine jw_getI (pc' := 30) (F := 292) rfl rfl rfl rfl g_1 ?_
  refine jw_icmp_ge (tgt := 53) (pc' := 33) rfl rfl (fun c_2 => ?_) (fun c_2 => ?_)
  · replace w := w.1 c_2
    refine jw_aload_n (pc' := 54) rfl rfl ?_
    refine jw_aload_n (pc' := 55) rfl rfl ?_
    obtain ⟨g_3, w⟩ := w
    refine jw_getI (pc' := 58) (F := 305) rfl rfl rfl rfl g_3 ?_
    refine jw_iconst (pc' := 59) (x := (2 : Int32)) rfl rfl ?_
    refine jw_icmp_eq (tgt := 66) (pc' := 62) rfl rfl (fun c_4 => ?_) (fun c_4 => ?_)
    · replace w := w.1 c_4
      refine jw_iconst (pc' := 67) (x := (0 : Int32)) rfl rfl ?_
      refine jw_gen (ls' := [some (vR 41 r0), some (vR 47 r1), some (vR 48 r2), none]) (st' := [vI (0 : Int32), vR 41 r0]) (And.intro (Or.inl rfl) (And.intro (Or.inl rfl) (And.intro (Or.inl rfl) (trivial)))) (And.intro (Or.inl rfl) (And.intro (Or.inl rfl) (trivial))) ?_
      exact w_X8_apart_67 w
    · replace w := w.2 c_4
      refine jw_iconst (pc' := 63) (x := (1 : Int32)) rfl rfl ?_
      refine jw_goto (pc' := 67) rfl rfl ?_
      refine jw_gen (ls' := [some (vR 41 r0), some (vR 47 r1), some (vR 48 r2), none]) (st' := [vI (1 : Int32), vR 41 r0]) (And.intro (Or.inl rfl) (And.intro (Or.inl rfl) (And.intro (Or.inl rfl) (trivial)))) (And.intro (Or.inl rfl) (And.intro (Or.inl rfl) (trivial))) ?_
      exact w_X8_apart_67 w
  · replace w := w.2 c_2
    refine jw_aload_n (pc' := 34) rfl rfl ?_
    refine jw_aload_n (pc' := 35) rfl rfl ?_
    refine jw_getR (pc' := 38) (F := 291) (t' := 209) rfl rfl rfl rfl rfl g_1 ?_
    refine jw_iload_n (pc' := 39) rfl rfl ?_
    obtain ⟨g_5, w⟩ := w
    obtain ⟨g_6, w⟩ := w
    refine jw_aald (pc' := 40) (t' := 48) rfl rfl rfl rfl g_5 g_6.ix g_6.2 ?_
    refine jw_cI (st := []) (sa := [vR 48 r2, vR 48 (jar h (jfr h 291 r1) (ixn x3))]) okX8_equal rfl rfl rfl rfl rfl rfl (jstp_static (sa := [vR 48 r2, vR 48 (jar h (jfr h 291 r1) (ixn x3))]) (st := []) rfl rfl sX8_equal okX8_equal rfl rfl) w (fun v_9 h_7 _ _ w => ?_)
    refine jw_if_eq (tgt := 47) (pc' := 46) rfl rfl (fun c_10 => ?_) (fun c_10 => ?_)
    · replace w := w.1 c_10
      refine jw_iinc (pc' := 50) (y := x3 + (1 : Int32)) (ls' := [some (vR 41 r0), some (vR 47 r1), some (vR 48 r2), some (vI (x3 + (1 : Int32)))]) rfl (by decide) rfl rfl rfl ?_
      refine jw_goto (pc' := 25) rfl rfl ?_
      exact hK25 _ _ _ _ _ w
    · replace w := w.2 c_10
      exact jw_return rfl rfl w
def L_X8_apart_25 (D : JD) (d : Nat) (Q : JO → JH → Prop) : Nat → Nat → Nat → Nat → Int32 → JH → Prop
  | 0 => fun _ _ _ _ _ => False
  | n + 1 => fun r0 r1 r2 x3 h => W_X8_apart_25 D d Q (L_X8_apart_25 D d Q n) r0 r1 r2 x3 h
theorem l_X8_apart_25 {D : JD} {d : Nat} {Q : JO → JH → Prop} : ∀ (n : Nat) (r0 : Nat) (r1 : Nat) (r2 : Nat) (x3 : Int32) (h : JH), L_X8_apart_25 D d Q n r0 r1 r2 x3 h → JW D (d + 1) mX8_apart 25 [some (vR 41 r0), some (vR 47 r1), some (vR 48 r2), some (vI x3)] [] h Q := by
  intro n
  induction n with
  | zero => intro _ _ _ _ _ w; exact w.elim
  | succ n ih => intro _ _ _ _ h w; exact w_X8_apart_25 ih w
def W_X8_apart_23 (D : JD) (d : Nat) (Q : JO → JH → Prop) (r0 : Nat) (r1 : Nat) (r2 : Nat) (h : JH) : Prop :=
  ∃ n, L_X8_apart_25 D d Q n r0 r1 r2 (0 : Int32) h
theorem w_X8_apart_23 {D : JD} {d : Nat} {Q : JO → JH → Prop} {r0 : Nat} {r1 : Nat} {r2 : Nat} {h : JH} (w : W_X8_apart_23 D d Q r0 r1 r2 h) : JW D (d + 1) mX8_apart 23 [some (vR 41 r0), some (vR 47 r1), some (vR 48 r2), none] [] h Q := by
  unfold W_X8_apart_23 at w
  refine jw_iconst (pc' := 24) (x := (0 : Int32)) rfl rfl ?_
  refine jw_istore_n (pc' := 25) (ls' := [some (vR 41 r0), some (vR 47 r1), some (vR 48 r2), some (vI (0 : Int32))]) rfl (by decide) rfl ?_
  obtain ⟨n, w⟩ := w
  exact l_X8_apart_25 n _ _ _ _ _ w
def W_X8_apart_0 (D : JD) (d : Nat) (Q : JO → JH → Prop) (r0 : Nat) (r1 : Nat) (r2 : Nat) (h : JH) : Prop :=
  r1 ≠ 0 ∧ (((jfi h 303 r1) = 0 → W_X8_apart_22 D d Q h) ∧ (¬ (jfi h 303 r1) = 0 → r2 ≠ 0 ∧ ((¬ (jfi h 305 r2) = (3 : Int32) → W_X8_apart_23 D d Q r0 r1 r2 h) ∧ ((jfi h 305 r2) = (3 : Int32) → cX8_isGather D d r2 h (pI D h (fun v_7 h_5 => (v_7 = 0 → W_X8_apart_23 D d Q r0 r1 r2 h_5) ∧ (¬ v_7 = 0 → W_X8_apart_22 D d Q h_5)) (jth Q))))))
theorem w_X8_apart_0 {D : JD} {d : Nat} {Q : JO → JH → Prop} {r0 : Nat} {r1 : Nat} {r2 : Nat} {h : JH} (w : W_X8_apart_0 D d Q r0 r1 r2 h) : JW D (d + 1) mX8_apart 0 [some (vR 41 r0), some (vR 47 r1), some (vR 48 r2), none] [] h Q := by
  unfold W_X8_apart_0 at w
  refine jw_aload_n (pc' := 1) rfl rfl ?_
  obtain ⟨g_1, w⟩ := w
  refine jw_getI (pc' := 4) (F := 303) rfl rfl rfl rfl g_1 ?_
  refine jw_if_eq (tgt := 22) (pc' := 7) rfl rfl (fun c_2 => ?_) (fun c_2 => ?_)
  · replace w := w.1 c_2
    refine jw_gen (ls' := [none, none, none, none]) (st' := []) (trivial) (trivial) ?_
    exact w_X8_apart_22 w
  · replace w := w.2 c_2
    refine jw_aload_n (pc' := 8) rfl rfl ?_
    obtain ⟨g_3, w⟩ := w
    refine jw_getI (pc' := 11) (F := 305) rfl rfl rfl rfl g_3 ?_
    refine jw_iconst (pc' := 12) (x := (3 : Int32)) rfl rfl ?_
    refine jw_icmp_ne (tgt := 23) (pc' := 15) rfl rfl (fun c_4 => ?_) (fun c_4 => ?_)
    · replace w := w.1 c_4
      exact w_X8_apart_23 w
    · replace w := w.2 c_4
      refine jw_aload_n (pc' := 16) rfl rfl ?_
      refine jw_cI (st := []) (sa := [vR 48 r2]) okX8_isGather rfl rfl rfl rfl rfl rfl (jstp_static (sa := [vR 48 r2]) (st := []) rfl rfl sX8_isGather okX8_isGather rfl rfl) w (fun v_7 h_5 _ _ w => ?_)
      refine jw_if_eq (tgt := 23) (pc' := 22) rfl rfl (fun c_8 => ?_) (fun c_8 => ?_)
      · replace w := w.1 c_8
        exact w_X8_apart_23 w
      · replace w := w.2 c_8
        refine jw_gen (ls' := [none, none, none, none]) (st' := []) (trivial) (trivial) ?_
        exact w_X8_apart_22 w
def T_X8_apart (D : JD) (d : Nat) (Q : JO → JH → Prop) (r0 : Nat) (r1 : Nat) (r2 : Nat) (h : JH) : Prop := W_X8_apart_0 D d Q r0 r1 r2 h
theorem t_X8_apart {D : JD} {d : Nat} {Q : JO → JH → Prop} {r0 : Nat} {r1 : Nat} {r2 : Nat} {h : JH} (w : T_X8_apart D d Q r0 r1 r2 h) : cX8_apart D (d + 1) r0 r1 r2 h Q := by
  unfold T_X8_apart at w
  unfold cX8_apart
  exact w_X8_apart_0 w
def W_X8_equal_33 (D : JD) (d : Nat) (Q : JO → JH → Prop) (h : JH) : Prop :=
  Q (.inl (some (vI (0 : Int32)))) h
theorem w_X8_equal_33 {D : JD} {d : Nat} {Q : JO → JH → Prop} {h : JH} (w : W_X8_equal_33 D d Q h) : JW D (d + 1) mX8_equal 33 [none, none, none] [] h Q := by
  unfold W_X8_equal_33 at w
  refine jw_iconst (pc' := 34) (x := (0 : Int32)) rfl rfl ?_
  exact jw_ireturn rfl rfl (rfl) w
def W_X8_equal_116 (D : JD) (d : Nat) (Q : JO → JH → Prop) (K116 : Nat → Nat → Int32 → JH → Prop) (r0 : Nat) (r1 : Nat) (x2 : Int32) (h : JH) : Prop :=
  r0 ≠ 0 ∧ (((jfi h 311 r0) ≤ x2 → Q (.inl (some (vI (1 : Int32)))) h) ∧ (¬ (jfi h 311 r0) ≤ x2 → (jfr h 310 r0) ≠ 0 ∧ jin x2 (jln h (jfr h 310 r0)) ∧ (r1 ≠ 0 ∧ ((jfr h 310 r1) ≠ 0 ∧ jin x2 (jln h (jfr h 310 r1)) ∧ (cX8_equal D d (jar h (jfr h 310 r0) (ixn x2)) (jar h (jfr h 310 r1) (ixn x2)) h (pI D h (fun v_10 h_8 => (¬ v_10 = 0 → K116 r0 r1 (x2 + (1 : Int32)) h_8) ∧ (v_10 = 0 → Q (.inl (some (vI (0 : Int32)))) h_8)) (jth Q)))))))
theorem w_X8_equal_116 {D : JD} {d : Nat} {Q : JO → JH → Prop} {K116 : Nat → Nat → Int32 → JH → Prop} {r0 : Nat} {r1 : Nat} {x2 : Int32} {h : JH} (hK116 : ∀ (r0 : Nat) (r1 : Nat) (x2 : Int32) (h : JH), K116 r0 r1 x2 h → JW D (d + 1) mX8_equal 116 [some (vR 48 r0), some (vR 48 r1), some (vI x2)] [] h Q) (w : W_X8_equal_116 D d Q K116 r0 r1 x2 h) : JW D (d + 1) mX8_equal 116 [some (vR 48 r0), some (vR 48 r1), some (vI x2)] [] h Q := by
  unfold W_X8_equal_116 at w
  refine jw_iload_n (pc' := 117) rfl rfl ?_
  refine jw_aload_n (pc' := 118) rfl rfl ?_
  obtain ⟨g_1, w⟩ := w
  refine jw_getI (pc' := 121) (F := 311) rfl rfl rfl rfl g_1 ?_
  refine jw_icmp_ge (tgt := 150) (pc' := 124) rfl rfl (fun c_2 => ?_) (fun c_2 => ?_)
  · replace w := w.1 c_2
    refine jw_iconst (pc' := 151) (x := (1 : Int32)) rfl rfl ?_
    exact jw_ireturn rfl rfl (rfl) w
  · replace w := w.2 c_2
    refine jw_aload_n (pc' := 125) rfl rfl ?_
    refine jw_getR (pc' := 128) (F := 310) (t' := 215) rfl rfl rfl rfl rfl g_1 ?_
    refine jw_iload_n (pc' := 129) rfl rfl ?_
    obtain ⟨g_3, w⟩ := w
    obtain ⟨g_4, w⟩ := w
    refine jw_aald (pc' := 130) (t' := 48) rfl rfl rfl rfl g_3 g_4.ix g_4.2 ?_
    refine jw_aload_n (pc' := 131) rfl rfl ?_
    obtain ⟨g_5, w⟩ := w
    refine jw_getR (pc' := 134) (F := 310) (t' := 215) rfl rfl rfl rfl rfl g_5 ?_
    refine jw_iload_n (pc' := 135) rfl rfl ?_
    obtain ⟨g_6, w⟩ := w
    obtain ⟨g_7, w⟩ := w
    refine jw_aald (pc' := 136) (t' := 48) rfl rfl rfl rfl g_6 g_7.ix g_7.2 ?_
    refine jw_cI (st := []) (sa := [vR 48 (jar h (jfr h 310 r0) (ixn x2)), vR 48 (jar h (jfr h 310 r1) (ixn x2))]) okX8_equal rfl rfl rfl rfl rfl rfl (jstp_static (sa := [vR 48 (jar h (jfr h 310 r0) (ixn x2)), vR 48 (jar h (jfr h 310 r1) (ixn x2))]) (st := []) rfl rfl sX8_equal okX8_equal rfl rfl) w (fun v_10 h_8 _ _ w => ?_)
    refine jw_if_ne (tgt := 144) (pc' := 142) rfl rfl (fun c_11 => ?_) (fun c_11 => ?_)
    · replace w := w.1 c_11
      refine jw_iinc (pc' := 147) (y := x2 + (1 : Int32)) (ls' := [some (vR 48 r0), some (vR 48 r1), some (vI (x2 + (1 : Int32)))]) rfl (by decide) rfl rfl rfl ?_
      refine jw_goto (pc' := 116) rfl rfl ?_
      exact hK116 _ _ _ _ w
    · replace w := w.2 c_11
      refine jw_iconst (pc' := 143) (x := (0 : Int32)) rfl rfl ?_
      exact jw_ireturn rfl rfl (rfl) w
def L_X8_equal_116 (D : JD) (d : Nat) (Q : JO → JH → Prop) : Nat → Nat → Nat → Int32 → JH → Prop
  | 0 => fun _ _ _ _ => False
  | n + 1 => fun r0 r1 x2 h => W_X8_equal_116 D d Q (L_X8_equal_116 D d Q n) r0 r1 x2 h
theorem l_X8_equal_116 {D : JD} {d : Nat} {Q : JO → JH → Prop} : ∀ (n : Nat) (r0 : Nat) (r1 : Nat) (x2 : Int32) (h : JH), L_X8_equal_116 D d Q n r0 r1 x2 h → JW D (d + 1) mX8_equal 116 [some (vR 48 r0), some (vR 48 r1), some (vI x2)] [] h Q := by
  intro n
  induction n with
  | zero => intro _ _ _ _ w; exact w.elim
  | succ n ih => intro _ _ _ h w; exact w_X8_equal_116 ih w
def W_X8_equal_114 (D : JD) (d : Nat) (Q : JO → JH → Prop) (r0 : Nat) (r1 : Nat) (h : JH) : Prop :=
  ∃ n, L_X8_equal_116 D d Q n r0 r1 (0 : Int32) h
theorem w_X8_equal_114 {D : JD} {d : Nat} {Q : JO → JH → Prop} {r0 : Nat} {r1 : Nat} {h : JH} (w : W_X8_equal_114 D d Q r0 r1 h) : JW D (d + 1) mX8_equal 114 [some (vR 48 r0), some (vR 48 r1), none] [] h Q := by
  unfold W_X8_equal_114 at w
  refine jw_iconst (pc' := 115) (x := (0 : Int32)) rfl rfl ?_
  refine jw_istore_n (pc' := 116) (ls' := [some (vR 48 r0), some (vR 48 r1), some (vI (0 : Int32))]) rfl (by decide) rfl ?_
  obtain ⟨n, w⟩ := w
  exact l_X8_equal_116 n _ _ _ _ w
def W_X8_equal_112 (D : JD) (d : Nat) (Q : JO → JH → Prop) (h : JH) : Prop :=
  Q (.inl (some (vI (0 : Int32)))) h
theorem w_X8_equal_112 {D : JD} {d : Nat} {Q : JO → JH → Prop} {h : JH} (w : W_X8_equal_112 D d Q h) : JW D (d + 1) mX8_equal 112 [none, none, none] [] h Q := by
  unfold W_X8_equal_112 at w
  refine jw_iconst (pc' := 113) (x := (0 : Int32)) rfl rfl ?_
  exact jw_ireturn rfl rfl (rfl) w
def W_X8_equal_82 (D : JD) (d : Nat) (Q : JO → JH → Prop) (r0 : Nat) (r1 : Nat) (h : JH) : Prop :=
  r0 ≠ 0 ∧ ((¬ (jfi h 305 r0) = (2 : Int32) → W_X8_equal_114 D d Q r0 r1 h) ∧ ((jfi h 305 r0) = (2 : Int32) → r1 ≠ 0 ∧ ((¬ (jfi h 313 r0) = (jfi h 313 r1) → W_X8_equal_112 D d Q h) ∧ ((jfi h 313 r0) = (jfi h 313 r1) → ((jfi h 314 r0) = (jfi h 314 r1) → W_X8_equal_114 D d Q r0 r1 h) ∧ (¬ (jfi h 314 r0) = (jfi h 314 r1) → W_X8_equal_112 D d Q h)))))
theorem w_X8_equal_82 {D : JD} {d : Nat} {Q : JO → JH → Prop} {r0 : Nat} {r1 : Nat} {h : JH} (w : W_X8_equal_82 D d Q r0 r1 h) : JW D (d + 1) mX8_equal 82 [some (vR 48 r0), some (vR 48 r1), none] [] h Q := by
  unfold W_X8_equal_82 at w
  refine jw_aload_n (pc' := 83) rfl rfl ?_
  obtain ⟨g_1, w⟩ := w
  refine jw_getI (pc' := 86) (F := 305) rfl rfl rfl rfl g_1 ?_
  refine jw_iconst (pc' := 87) (x := (2 : Int32)) rfl rfl ?_
  refine jw_icmp_ne (tgt := 114) (pc' := 90) rfl rfl (fun c_2 => ?_) (fun c_2 => ?_)
  · replace w := w.1 c_2
    exact w_X8_equal_114 w
  · replace w := w.2 c_2
    refine jw_aload_n (pc' := 91) rfl rfl ?_
    refine jw_getI (pc' := 94) (F := 313) rfl rfl rfl rfl g_1 ?_
    refine jw_aload_n (pc' := 95) rfl rfl ?_
    obtain ⟨g_3, w⟩ := w
    refine jw_getI (pc' := 98) (F := 313) rfl rfl rfl rfl g_3 ?_
    refine jw_icmp_ne (tgt := 112) (pc' := 101) rfl rfl (fun c_4 => ?_) (fun c_4 => ?_)
    · replace w := w.1 c_4
      refine jw_gen (ls' := [none, none, none]) (st' := []) (trivial) (trivial) ?_
      exact w_X8_equal_112 w
    · replace w := w.2 c_4
      refine jw_aload_n (pc' := 102) rfl rfl ?_
      refine jw_getI (pc' := 105) (F := 314) rfl rfl rfl rfl g_1 ?_
      refine jw_aload_n (pc' := 106) rfl rfl ?_
      refine jw_getI (pc' := 109) (F := 314) rfl rfl rfl rfl g_3 ?_
      refine jw_icmp_eq (tgt := 114) (pc' := 112) rfl rfl (fun c_5 => ?_) (fun c_5 => ?_)
      · replace w := w.1 c_5
        exact w_X8_equal_114 w
      · replace w := w.2 c_5
        refine jw_gen (ls' := [none, none, none]) (st' := []) (trivial) (trivial) ?_
        exact w_X8_equal_112 w
def W_X8_equal_58 (D : JD) (d : Nat) (Q : JO → JH → Prop) (r0 : Nat) (r1 : Nat) (h : JH) : Prop :=
  r0 ≠ 0 ∧ ((¬ (jfi h 305 r0) = (3 : Int32) → W_X8_equal_82 D d Q r0 r1 h) ∧ ((jfi h 305 r0) = (3 : Int32) → r1 ≠ 0 ∧ ((jfr h 307 r0) ≠ 0 ∧ (cJ5_equals D d (jfr h 307 r0) (jfr h 307 r1) h (pI D h (fun v_7 h_5 => (¬ v_7 = 0 → W_X8_equal_82 D d Q r0 r1 h_5) ∧ (v_7 = 0 → Q (.inl (some (vI (0 : Int32)))) h_5)) (jth Q))))))
theorem w_X8_equal_58 {D : JD} {d : Nat} {Q : JO → JH → Prop} {r0 : Nat} {r1 : Nat} {h : JH} (w : W_X8_equal_58 D d Q r0 r1 h) : JW D (d + 1) mX8_equal 58 [some (vR 48 r0), some (vR 48 r1), none] [] h Q := by
  unfold W_X8_equal_58 at w
  refine jw_aload_n (pc' := 59) rfl rfl ?_
  obtain ⟨g_1, w⟩ := w
  refine jw_getI (pc' := 62) (F := 305) rfl rfl rfl rfl g_1 ?_
  refine jw_iconst (pc' := 63) (x := (3 : Int32)) rfl rfl ?_
  refine jw_icmp_ne (tgt := 82) (pc' := 66) rfl rfl (fun c_2 => ?_) (fun c_2 => ?_)
  · replace w := w.1 c_2
    exact w_X8_equal_82 w
  · replace w := w.2 c_2
    refine jw_aload_n (pc' := 67) rfl rfl ?_
    refine jw_getR (pc' := 70) (F := 307) (t' := 64) rfl rfl rfl rfl rfl g_1 ?_
    refine jw_aload_n (pc' := 71) rfl rfl ?_
    obtain ⟨g_3, w⟩ := w
    refine jw_getR (pc' := 74) (F := 307) (t' := 64) rfl rfl rfl rfl rfl g_3 ?_
    obtain ⟨g_4, w⟩ := w
    refine jw_cI (st := []) (sa := [vR 64 (jfr h 307 r0), vR 64 (jfr h 307 r1)]) okJ5_equals rfl rfl rfl rfl rfl rfl (jstp_virtual (sa := [vR 64 (jfr h 307 r1)]) (st := []) (k := 0) rfl rfl sJ5_equals okJ5_equals g_4 (one64.k g_4) rfl rfl) w (fun v_7 h_5 _ _ w => ?_)
    refine jw_if_ne (tgt := 82) (pc' := 80) rfl rfl (fun c_8 => ?_) (fun c_8 => ?_)
    · replace w := w.1 c_8
      exact w_X8_equal_82 w
    · replace w := w.2 c_8
      refine jw_iconst (pc' := 81) (x := (0 : Int32)) rfl rfl ?_
      exact jw_ireturn rfl rfl (rfl) w
def W_X8_equal_0 (D : JD) (d : Nat) (Q : JO → JH → Prop) (r0 : Nat) (r1 : Nat) (h : JH) : Prop :=
  r0 ≠ 0 ∧ (r1 ≠ 0 ∧ ((¬ (jfi h 305 r0) = (jfi h 305 r1) → W_X8_equal_33 D d Q h) ∧ ((jfi h 305 r0) = (jfi h 305 r1) → (¬ (jfi h 306 r0) = (jfi h 306 r1) → W_X8_equal_33 D d Q h) ∧ ((jfi h 306 r0) = (jfi h 306 r1) → ((jfi h 311 r0) = (jfi h 311 r1) → (¬ (jfi h 305 r0) = 0 → W_X8_equal_58 D d Q r0 r1 h) ∧ ((jfi h 305 r0) = 0 → cX8_alike D d (jfr h 309 r0) (jfr h 309 r1) h (pI D h (fun v_9 h_7 => (¬ v_9 = 0 → W_X8_equal_58 D d Q r0 r1 h_7) ∧ (v_9 = 0 → Q (.inl (some (vI (0 : Int32)))) h_7)) (jth Q)))) ∧ (¬ (jfi h 311 r0) = (jfi h 311 r1) → W_X8_equal_33 D d Q h)))))
theorem w_X8_equal_0 {D : JD} {d : Nat} {Q : JO → JH → Prop} {r0 : Nat} {r1 : Nat} {h : JH} (w : W_X8_equal_0 D d Q r0 r1 h) : JW D (d + 1) mX8_equal 0 [some (vR 48 r0), some (vR 48 r1), none] [] h Q := by
  unfold W_X8_equal_0 at w
  refine jw_aload_n (pc' := 1) rfl rfl ?_
  obtain ⟨g_1, w⟩ := w
  refine jw_getI (pc' := 4) (F := 305) rfl rfl rfl rfl g_1 ?_
  refine jw_aload_n (pc' := 5) rfl rfl ?_
  obtain ⟨g_2, w⟩ := w
  refine jw_getI (pc' := 8) (F := 305) rfl rfl rfl rfl g_2 ?_
  refine jw_icmp_ne (tgt := 33) (pc' := 11) rfl rfl (fun c_3 => ?_) (fun c_3 => ?_)
  · replace w := w.1 c_3
    refine jw_gen (ls' := [none, none, none]) (st' := []) (trivial) (trivial) ?_
    exact w_X8_equal_33 w
  · replace w := w.2 c_3
    refine jw_aload_n (pc' := 12) rfl rfl ?_
    refine jw_getI (pc' := 15) (F := 306) rfl rfl rfl rfl g_1 ?_
    refine jw_aload_n (pc' := 16) rfl rfl ?_
    refine jw_getI (pc' := 19) (F := 306) rfl rfl rfl rfl g_2 ?_
    refine jw_icmp_ne (tgt := 33) (pc' := 22) rfl rfl (fun c_4 => ?_) (fun c_4 => ?_)
    · replace w := w.1 c_4
      refine jw_gen (ls' := [none, none, none]) (st' := []) (trivial) (trivial) ?_
      exact w_X8_equal_33 w
    · replace w := w.2 c_4
      refine jw_aload_n (pc' := 23) rfl rfl ?_
      refine jw_getI (pc' := 26) (F := 311) rfl rfl rfl rfl g_1 ?_
      refine jw_aload_n (pc' := 27) rfl rfl ?_
      refine jw_getI (pc' := 30) (F := 311) rfl rfl rfl rfl g_2 ?_
      refine jw_icmp_eq (tgt := 35) (pc' := 33) rfl rfl (fun c_5 => ?_) (fun c_5 => ?_)
      · replace w := w.1 c_5
        refine jw_aload_n (pc' := 36) rfl rfl ?_
        refine jw_getI (pc' := 39) (F := 305) rfl rfl rfl rfl g_1 ?_
        refine jw_if_ne (tgt := 58) (pc' := 42) rfl rfl (fun c_6 => ?_) (fun c_6 => ?_)
        · replace w := w.1 c_6
          exact w_X8_equal_58 w
        · replace w := w.2 c_6
          refine jw_aload_n (pc' := 43) rfl rfl ?_
          refine jw_getR (pc' := 46) (F := 309) (t' := 105) rfl rfl rfl rfl rfl g_1 ?_
          refine jw_aload_n (pc' := 47) rfl rfl ?_
          refine jw_getR (pc' := 50) (F := 309) (t' := 105) rfl rfl rfl rfl rfl g_2 ?_
          refine jw_cI (st := []) (sa := [vR 105 (jfr h 309 r0), vR 105 (jfr h 309 r1)]) okX8_alike rfl rfl rfl rfl rfl rfl (jstp_static (sa := [vR 105 (jfr h 309 r0), vR 105 (jfr h 309 r1)]) (st := []) rfl rfl sX8_alike okX8_alike rfl rfl) w (fun v_9 h_7 _ _ w => ?_)
          refine jw_if_ne (tgt := 58) (pc' := 56) rfl rfl (fun c_10 => ?_) (fun c_10 => ?_)
          · replace w := w.1 c_10
            exact w_X8_equal_58 w
          · replace w := w.2 c_10
            refine jw_iconst (pc' := 57) (x := (0 : Int32)) rfl rfl ?_
            exact jw_ireturn rfl rfl (rfl) w
      · replace w := w.2 c_5
        refine jw_gen (ls' := [none, none, none]) (st' := []) (trivial) (trivial) ?_
        exact w_X8_equal_33 w
def T_X8_equal (D : JD) (d : Nat) (Q : JO → JH → Prop) (r0 : Nat) (r1 : Nat) (h : JH) : Prop := W_X8_equal_0 D d Q r0 r1 h
theorem t_X8_equal {D : JD} {d : Nat} {Q : JO → JH → Prop} {r0 : Nat} {r1 : Nat} {h : JH} (w : T_X8_equal D d Q r0 r1 h) : cX8_equal D (d + 1) r0 r1 h Q := by
  unfold T_X8_equal at w
  unfold cX8_equal
  exact w_X8_equal_0 w
def W_X8_alike_30 (D : JD) (d : Nat) (Q : JO → JH → Prop) (s0 : Int32) (h : JH) : Prop :=
  jbo s0 ∧ (Q (.inl (some (vI s0))) h)
theorem w_X8_alike_30 {D : JD} {d : Nat} {Q : JO → JH → Prop} {s0 : Int32} {h : JH} (w : W_X8_alike_30 D d Q s0 h) : JW D (d + 1) mX8_alike 30 [none, none] [vI s0] h Q := by
  unfold W_X8_alike_30 at w
  obtain ⟨g_1, w⟩ := w
  exact jw_ireturn rfl rfl (g_1.nr) w
def W_X8_alike_14 (D : JD) (d : Nat) (Q : JO → JH → Prop) (r0 : Nat) (r1 : Nat) (h : JH) : Prop :=
  r0 ≠ 0 ∧ (r1 ≠ 0 ∧ ((¬ (jfi h 266 r0) = (jfi h 266 r1) → W_X8_alike_30 D d Q (0 : Int32) h) ∧ ((jfi h 266 r0) = (jfi h 266 r1) → W_X8_alike_30 D d Q (1 : Int32) h)))
theorem w_X8_alike_14 {D : JD} {d : Nat} {Q : JO → JH → Prop} {r0 : Nat} {r1 : Nat} {h : JH} (w : W_X8_alike_14 D d Q r0 r1 h) : JW D (d + 1) mX8_alike 14 [some (vR 46 r0), some (vR 46 r1)] [] h Q := by
  unfold W_X8_alike_14 at w
  refine jw_aload_n (pc' := 15) rfl rfl ?_
  obtain ⟨g_1, w⟩ := w
  refine jw_getI (pc' := 18) (F := 266) rfl rfl rfl rfl g_1 ?_
  refine jw_aload_n (pc' := 19) rfl rfl ?_
  obtain ⟨g_2, w⟩ := w
  refine jw_getI (pc' := 22) (F := 266) rfl rfl rfl rfl g_2 ?_
  refine jw_icmp_ne (tgt := 29) (pc' := 25) rfl rfl (fun c_3 => ?_) (fun c_3 => ?_)
  · replace w := w.1 c_3
    refine jw_iconst (pc' := 30) (x := (0 : Int32)) rfl rfl ?_
    refine jw_gen (ls' := [none, none]) (st' := [vI (0 : Int32)]) (trivial) (And.intro (Or.inl rfl) (trivial)) ?_
    exact w_X8_alike_30 w
  · replace w := w.2 c_3
    refine jw_iconst (pc' := 26) (x := (1 : Int32)) rfl rfl ?_
    refine jw_goto (pc' := 30) rfl rfl ?_
    refine jw_gen (ls' := [none, none]) (st' := [vI (1 : Int32)]) (trivial) (And.intro (Or.inl rfl) (trivial)) ?_
    exact w_X8_alike_30 w
def W_X8_alike_55 (D : JD) (d : Nat) (Q : JO → JH → Prop) (s0 : Int32) (h : JH) : Prop :=
  jbo s0 ∧ (Q (.inl (some (vI s0))) h)
theorem w_X8_alike_55 {D : JD} {d : Nat} {Q : JO → JH → Prop} {s0 : Int32} {h : JH} (w : W_X8_alike_55 D d Q s0 h) : JW D (d + 1) mX8_alike 55 [none, none] [vI s0] h Q := by
  unfold W_X8_alike_55 at w
  obtain ⟨g_1, w⟩ := w
  exact jw_ireturn rfl rfl (g_1.nr) w
def W_X8_alike_54 (D : JD) (d : Nat) (Q : JO → JH → Prop) (h : JH) : Prop :=
  W_X8_alike_55 D d Q (0 : Int32) h
theorem w_X8_alike_54 {D : JD} {d : Nat} {Q : JO → JH → Prop} {h : JH} (w : W_X8_alike_54 D d Q h) : JW D (d + 1) mX8_alike 54 [none, none] [] h Q := by
  unfold W_X8_alike_54 at w
  refine jw_iconst (pc' := 55) (x := (0 : Int32)) rfl rfl ?_
  exact w_X8_alike_55 w
def W_X8_alike_0 (D : JD) (d : Nat) (Q : JO → JH → Prop) (r0 : Nat) (r1 : Nat) (h : JH) : Prop :=
  r0 ≠ 0 ∧ (((jfi h 266 r0) = 0 → W_X8_alike_14 D d Q r0 r1 h) ∧ (¬ (jfi h 266 r0) = 0 → r1 ≠ 0 ∧ ((¬ (jfi h 266 r1) = 0 → (¬ (jfi h 266 r0) = (jfi h 266 r1) → W_X8_alike_54 D d Q h) ∧ ((jfi h 266 r0) = (jfi h 266 r1) → cX8_compare D d r0 r1 h (pI D h (fun v_8 h_6 => (¬ v_8 = 0 → W_X8_alike_54 D d Q h_6) ∧ (v_8 = 0 → W_X8_alike_55 D d Q (1 : Int32) h_6)) (jth Q)))) ∧ ((jfi h 266 r1) = 0 → W_X8_alike_14 D d Q r0 r1 h))))
theorem w_X8_alike_0 {D : JD} {d : Nat} {Q : JO → JH → Prop} {r0 : Nat} {r1 : Nat} {h : JH} (w : W_X8_alike_0 D d Q r0 r1 h) : JW D (d + 1) mX8_alike 0 [some (vR 46 r0), some (vR 46 r1)] [] h Q := by
  unfold W_X8_alike_0 at w
  refine jw_aload_n (pc' := 1) rfl rfl ?_
  obtain ⟨g_1, w⟩ := w
  refine jw_getI (pc' := 4) (F := 266) rfl rfl rfl rfl g_1 ?_
  refine jw_if_eq (tgt := 14) (pc' := 7) rfl rfl (fun c_2 => ?_) (fun c_2 => ?_)
  · replace w := w.1 c_2
    exact w_X8_alike_14 w
  · replace w := w.2 c_2
    refine jw_aload_n (pc' := 8) rfl rfl ?_
    obtain ⟨g_3, w⟩ := w
    refine jw_getI (pc' := 11) (F := 266) rfl rfl rfl rfl g_3 ?_
    refine jw_if_ne (tgt := 31) (pc' := 14) rfl rfl (fun c_4 => ?_) (fun c_4 => ?_)
    · replace w := w.1 c_4
      refine jw_aload_n (pc' := 32) rfl rfl ?_
      refine jw_getI (pc' := 35) (F := 266) rfl rfl rfl rfl g_1 ?_
      refine jw_aload_n (pc' := 36) rfl rfl ?_
      refine jw_getI (pc' := 39) (F := 266) rfl rfl rfl rfl g_3 ?_
      refine jw_icmp_ne (tgt := 54) (pc' := 42) rfl rfl (fun c_5 => ?_) (fun c_5 => ?_)
      · replace w := w.1 c_5
        refine jw_gen (ls' := [none, none]) (st' := []) (trivial) (trivial) ?_
        exact w_X8_alike_54 w
      · replace w := w.2 c_5
        refine jw_aload_n (pc' := 43) rfl rfl ?_
        refine jw_aload_n (pc' := 44) rfl rfl ?_
        refine jw_cI (st := []) (sa := [vR 46 r0, vR 46 r1]) okX8_compare rfl rfl rfl rfl rfl rfl (jstp_static (sa := [vR 46 r0, vR 46 r1]) (st := []) rfl rfl sX8_compare okX8_compare rfl rfl) w (fun v_8 h_6 _ _ w => ?_)
        refine jw_if_ne (tgt := 54) (pc' := 50) rfl rfl (fun c_9 => ?_) (fun c_9 => ?_)
        · replace w := w.1 c_9
          refine jw_gen (ls' := [none, none]) (st' := []) (trivial) (trivial) ?_
          exact w_X8_alike_54 w
        · replace w := w.2 c_9
          refine jw_iconst (pc' := 51) (x := (1 : Int32)) rfl rfl ?_
          refine jw_goto (pc' := 55) rfl rfl ?_
          refine jw_gen (ls' := [none, none]) (st' := [vI (1 : Int32)]) (trivial) (And.intro (Or.inl rfl) (trivial)) ?_
          exact w_X8_alike_55 w
    · replace w := w.2 c_4
      exact w_X8_alike_14 w
def T_X8_alike (D : JD) (d : Nat) (Q : JO → JH → Prop) (r0 : Nat) (r1 : Nat) (h : JH) : Prop := W_X8_alike_0 D d Q r0 r1 h
theorem t_X8_alike {D : JD} {d : Nat} {Q : JO → JH → Prop} {r0 : Nat} {r1 : Nat} {h : JH} (w : T_X8_alike D d Q r0 r1 h) : cX8_alike D (d + 1) r0 r1 h Q := by
  unfold T_X8_alike at w
  unfold cX8_alike
  exact w_X8_alike_0 w
def W_X8_compare_81 (D : JD) (d : Nat) (Q : JO → JH → Prop) (r0 : Nat) (r1 : Nat) (h : JH) : Prop :=
  r0 ≠ 0 ∧ (r1 ≠ 0 ∧ (cJ17_compare D d (jfi h 268 r0) (jfi h 268 r1) h (pI D h (fun v_5 h_3 => Q (.inl (some (vI v_5))) h_3) (jth Q))))
theorem w_X8_compare_81 {D : JD} {d : Nat} {Q : JO → JH → Prop} {r0 : Nat} {r1 : Nat} {h : JH} (w : W_X8_compare_81 D d Q r0 r1 h) : JW D (d + 1) mX8_compare 81 [some (vR 46 r0), some (vR 46 r1), none] [] h Q := by
  unfold W_X8_compare_81 at w
  refine jw_aload_n (pc' := 82) rfl rfl ?_
  obtain ⟨g_1, w⟩ := w
  refine jw_getI (pc' := 85) (F := 268) rfl rfl rfl rfl g_1 ?_
  refine jw_aload_n (pc' := 86) rfl rfl ?_
  obtain ⟨g_2, w⟩ := w
  refine jw_getI (pc' := 89) (F := 268) rfl rfl rfl rfl g_2 ?_
  refine jw_cI (st := []) (sa := [vI (jfi h 268 r0), vI (jfi h 268 r1)]) okJ17_compare rfl rfl rfl rfl rfl rfl (jstp_static (sa := [vI (jfi h 268 r0), vI (jfi h 268 r1)]) (st := []) rfl rfl sJ17_compare okJ17_compare rfl rfl) w (fun v_5 h_3 _ _ w => ?_)
  exact jw_ireturn rfl rfl (rfl) w
def W_X8_compare_74 (D : JD) (d : Nat) (Q : JO → JH → Prop) (s0 : Int32) (h : JH) : Prop :=
  Q (.inl (some (vI s0))) h
theorem w_X8_compare_74 {D : JD} {d : Nat} {Q : JO → JH → Prop} {s0 : Int32} {h : JH} (w : W_X8_compare_74 D d Q s0 h) : JW D (d + 1) mX8_compare 74 [none, none, none] [vI s0] h Q := by
  unfold W_X8_compare_74 at w
  exact jw_ireturn rfl rfl (rfl) w
def W_X8_compare_23 (D : JD) (d : Nat) (Q : JO → JH → Prop) (K23 : Nat → Nat → Int32 → JH → Prop) (r0 : Nat) (r1 : Nat) (x2 : Int32) (h : JH) : Prop :=
  r0 ≠ 0 ∧ (((jfi h 268 r0) ≤ x2 → W_X8_compare_81 D d Q r0 r1 h) ∧ (¬ (jfi h 268 r0) ≤ x2 → r1 ≠ 0 ∧ (((jfi h 268 r1) ≤ x2 → W_X8_compare_81 D d Q r0 r1 h) ∧ (¬ (jfi h 268 r1) ≤ x2 → (jfr h 269 r0) ≠ 0 ∧ jin x2 (jln h (jfr h 269 r0)) ∧ ((jfr h 269 r1) ≠ 0 ∧ jin x2 (jln h (jfr h 269 r1)) ∧ (((jai h (jfr h 269 r0) (ixn x2)) = (jai h (jfr h 269 r1) (ixn x2)) → K23 r0 r1 (x2 + (1 : Int32)) h) ∧ (¬ (jai h (jfr h 269 r0) (ixn x2)) = (jai h (jfr h 269 r1) (ixn x2)) → jin x2 (jln h (jfr h 269 r0)) ∧ (jin x2 (jln h (jfr h 269 r1)) ∧ (((jai h (jfr h 269 r1) (ixn x2)) ≤ (jai h (jfr h 269 r0) (ixn x2)) → W_X8_compare_74 D d Q (1 : Int32) h) ∧ (¬ (jai h (jfr h 269 r1) (ixn x2)) ≤ (jai h (jfr h 269 r0) (ixn x2)) → W_X8_compare_74 D d Q (-1 : Int32) h))))))))))
theorem w_X8_compare_23 {D : JD} {d : Nat} {Q : JO → JH → Prop} {K23 : Nat → Nat → Int32 → JH → Prop} {r0 : Nat} {r1 : Nat} {x2 : Int32} {h : JH} (hK23 : ∀ (r0 : Nat) (r1 : Nat) (x2 : Int32) (h : JH), K23 r0 r1 x2 h → JW D (d + 1) mX8_compare 23 [some (vR 46 r0), some (vR 46 r1), some (vI x2)] [] h Q) (w : W_X8_compare_23 D d Q K23 r0 r1 x2 h) : JW D (d + 1) mX8_compare 23 [some (vR 46 r0), some (vR 46 r1), some (vI x2)] [] h Q := by
  unfold W_X8_compare_23 at w
  refine jw_iload_n (pc' := 24) rfl rfl ?_
  refine jw_aload_n (pc' := 25) rfl rfl ?_
  obtain ⟨g_1, w⟩ := w
  refine jw_getI (pc' := 28) (F := 268) rfl rfl rfl rfl g_1 ?_
  refine jw_icmp_ge (tgt := 81) (pc' := 31) rfl rfl (fun c_2 => ?_) (fun c_2 => ?_)
  · replace w := w.1 c_2
    refine jw_gen (ls' := [some (vR 46 r0), some (vR 46 r1), none]) (st' := []) (And.intro (Or.inl rfl) (And.intro (Or.inl rfl) (trivial))) (trivial) ?_
    exact w_X8_compare_81 w
  · replace w := w.2 c_2
    refine jw_iload_n (pc' := 32) rfl rfl ?_
    refine jw_aload_n (pc' := 33) rfl rfl ?_
    obtain ⟨g_3, w⟩ := w
    refine jw_getI (pc' := 36) (F := 268) rfl rfl rfl rfl g_3 ?_
    refine jw_icmp_ge (tgt := 81) (pc' := 39) rfl rfl (fun c_4 => ?_) (fun c_4 => ?_)
    · replace w := w.1 c_4
      refine jw_gen (ls' := [some (vR 46 r0), some (vR 46 r1), none]) (st' := []) (And.intro (Or.inl rfl) (And.intro (Or.inl rfl) (trivial))) (trivial) ?_
      exact w_X8_compare_81 w
    · replace w := w.2 c_4
      refine jw_aload_n (pc' := 40) rfl rfl ?_
      refine jw_getR (pc' := 43) (F := 269) (t' := 197) rfl rfl rfl rfl rfl g_1 ?_
      refine jw_iload_n (pc' := 44) rfl rfl ?_
      obtain ⟨g_5, w⟩ := w
      obtain ⟨g_6, w⟩ := w
      refine jw_bald (pc' := 45) rfl rfl rfl rfl g_5 g_6.ix g_6.2 ?_
      refine jw_aload_n (pc' := 46) rfl rfl ?_
      refine jw_getR (pc' := 49) (F := 269) (t' := 197) rfl rfl rfl rfl rfl g_3 ?_
      refine jw_iload_n (pc' := 50) rfl rfl ?_
      obtain ⟨g_7, w⟩ := w
      obtain ⟨g_8, w⟩ := w
      refine jw_bald (pc' := 51) rfl rfl rfl rfl g_7 g_8.ix g_8.2 ?_
      refine jw_icmp_eq (tgt := 75) (pc' := 54) rfl rfl (fun c_9 => ?_) (fun c_9 => ?_)
      · replace w := w.1 c_9
        refine jw_iinc (pc' := 78) (y := x2 + (1 : Int32)) (ls' := [some (vR 46 r0), some (vR 46 r1), some (vI (x2 + (1 : Int32)))]) rfl (by decide) rfl rfl rfl ?_
        refine jw_goto (pc' := 23) rfl rfl ?_
        exact hK23 _ _ _ _ w
      · replace w := w.2 c_9
        refine jw_aload_n (pc' := 55) rfl rfl ?_
        refine jw_getR (pc' := 58) (F := 269) (t' := 197) rfl rfl rfl rfl rfl g_1 ?_
        refine jw_iload_n (pc' := 59) rfl rfl ?_
        obtain ⟨g_10, w⟩ := w
        refine jw_bald (pc' := 60) rfl rfl rfl rfl g_5 g_10.ix g_10.2 ?_
        refine jw_aload_n (pc' := 61) rfl rfl ?_
        refine jw_getR (pc' := 64) (F := 269) (t' := 197) rfl rfl rfl rfl rfl g_3 ?_
        refine jw_iload_n (pc' := 65) rfl rfl ?_
        obtain ⟨g_11, w⟩ := w
        refine jw_bald (pc' := 66) rfl rfl rfl rfl g_7 g_11.ix g_11.2 ?_
        refine jw_icmp_ge (tgt := 73) (pc' := 69) rfl rfl (fun c_12 => ?_) (fun c_12 => ?_)
        · replace w := w.1 c_12
          refine jw_iconst (pc' := 74) (x := (1 : Int32)) rfl rfl ?_
          refine jw_gen (ls' := [none, none, none]) (st' := [vI (1 : Int32)]) (trivial) (And.intro (Or.inl rfl) (trivial)) ?_
          exact w_X8_compare_74 w
        · replace w := w.2 c_12
          refine jw_iconst (pc' := 70) (x := (-1 : Int32)) rfl rfl ?_
          refine jw_goto (pc' := 74) rfl rfl ?_
          refine jw_gen (ls' := [none, none, none]) (st' := [vI (-1 : Int32)]) (trivial) (And.intro (Or.inl rfl) (trivial)) ?_
          exact w_X8_compare_74 w
def L_X8_compare_23 (D : JD) (d : Nat) (Q : JO → JH → Prop) : Nat → Nat → Nat → Int32 → JH → Prop
  | 0 => fun _ _ _ _ => False
  | n + 1 => fun r0 r1 x2 h => W_X8_compare_23 D d Q (L_X8_compare_23 D d Q n) r0 r1 x2 h
theorem l_X8_compare_23 {D : JD} {d : Nat} {Q : JO → JH → Prop} : ∀ (n : Nat) (r0 : Nat) (r1 : Nat) (x2 : Int32) (h : JH), L_X8_compare_23 D d Q n r0 r1 x2 h → JW D (d + 1) mX8_compare 23 [some (vR 46 r0), some (vR 46 r1), some (vI x2)] [] h Q := by
  intro n
  induction n with
  | zero => intro _ _ _ _ w; exact w.elim
  | succ n ih => intro _ _ _ h w; exact w_X8_compare_23 ih w
def W_X8_compare_0 (D : JD) (d : Nat) (Q : JO → JH → Prop) (r0 : Nat) (r1 : Nat) (h : JH) : Prop :=
  r0 ≠ 0 ∧ (((jfi h 266 r0) = (25 : Int32) → ∃ n, L_X8_compare_23 D d Q n r0 r1 (0 : Int32) h) ∧ (¬ (jfi h 266 r0) = (25 : Int32) → r1 ≠ 0 ∧ (cJ18_compare D d (jfl h 267 r0) (jfl h 267 r1) h (pI D h (fun v_6 h_4 => Q (.inl (some (vI v_6))) h_4) (jth Q)))))
theorem w_X8_compare_0 {D : JD} {d : Nat} {Q : JO → JH → Prop} {r0 : Nat} {r1 : Nat} {h : JH} (w : W_X8_compare_0 D d Q r0 r1 h) : JW D (d + 1) mX8_compare 0 [some (vR 46 r0), some (vR 46 r1), none] [] h Q := by
  unfold W_X8_compare_0 at w
  refine jw_aload_n (pc' := 1) rfl rfl ?_
  obtain ⟨g_1, w⟩ := w
  refine jw_getI (pc' := 4) (F := 266) rfl rfl rfl rfl g_1 ?_
  refine jw_bipush (pc' := 6) (x := (25 : Int32)) rfl rfl ?_
  refine jw_icmp_eq (tgt := 21) (pc' := 9) rfl rfl (fun c_2 => ?_) (fun c_2 => ?_)
  · replace w := w.1 c_2
    refine jw_iconst (pc' := 22) (x := (0 : Int32)) rfl rfl ?_
    refine jw_istore_n (pc' := 23) (ls' := [some (vR 46 r0), some (vR 46 r1), some (vI (0 : Int32))]) rfl (by decide) rfl ?_
    obtain ⟨n, w⟩ := w
    exact l_X8_compare_23 n _ _ _ _ w
  · replace w := w.2 c_2
    refine jw_aload_n (pc' := 10) rfl rfl ?_
    refine jw_getL (pc' := 13) (F := 267) rfl rfl rfl rfl g_1 ?_
    refine jw_aload_n (pc' := 14) rfl rfl ?_
    obtain ⟨g_3, w⟩ := w
    refine jw_getL (pc' := 17) (F := 267) rfl rfl rfl rfl g_3 ?_
    refine jw_cI (st := []) (sa := [vL (jfl h 267 r0), vL (jfl h 267 r1)]) okJ18_compare rfl rfl rfl rfl rfl rfl (jstp_static (sa := [vL (jfl h 267 r0), vL (jfl h 267 r1)]) (st := []) rfl rfl sJ18_compare okJ18_compare rfl rfl) w (fun v_6 h_4 _ _ w => ?_)
    exact jw_ireturn rfl rfl (rfl) w
def T_X8_compare (D : JD) (d : Nat) (Q : JO → JH → Prop) (r0 : Nat) (r1 : Nat) (h : JH) : Prop := W_X8_compare_0 D d Q r0 r1 h
theorem t_X8_compare {D : JD} {d : Nat} {Q : JO → JH → Prop} {r0 : Nat} {r1 : Nat} {h : JH} (w : T_X8_compare D d Q r0 r1 h) : cX8_compare D (d + 1) r0 r1 h Q := by
  unfold T_X8_compare at w
  unfold cX8_compare
  exact w_X8_compare_0 w
def W_X8_checkItem_321 (D : JD) (d : Nat) (Q : JO → JH → Prop) (K185 : Nat → Nat → Nat → Int32 → JH → Prop) (r0 : Nat) (r1 : Nat) (r3 : Nat) (x5 : Int32) (h : JH) : Prop :=
  K185 r0 r1 r3 (x5 + (1 : Int32)) h
theorem w_X8_checkItem_321 {D : JD} {d : Nat} {Q : JO → JH → Prop} {K185 : Nat → Nat → Nat → Int32 → JH → Prop} {r0 : Nat} {r1 : Nat} {r3 : Nat} {x5 : Int32} {h : JH} (hK185 : ∀ (r0 : Nat) (r1 : Nat) (r3 : Nat) (x5 : Int32) (h : JH), K185 r0 r1 r3 x5 h → JW D (d + 1) mX8_checkItem 185 [some (vR 41 r0), some (vR 47 r1), none, some (vR 48 r3), none, some (vI x5), none, none] [] h Q) (w : W_X8_checkItem_321 D d Q K185 r0 r1 r3 x5 h) : JW D (d + 1) mX8_checkItem 321 [some (vR 41 r0), some (vR 47 r1), none, some (vR 48 r3), none, some (vI x5), none, none] [] h Q := by
  unfold W_X8_checkItem_321 at w
  refine jw_iinc (pc' := 324) (y := x5 + (1 : Int32)) (ls' := [some (vR 41 r0), some (vR 47 r1), none, some (vR 48 r3), none, some (vI (x5 + (1 : Int32))), none, none]) rfl (by decide) rfl rfl rfl ?_
  refine jw_goto (pc' := 185) rfl rfl ?_
  exact hK185 _ _ _ _ _ w
def W_X8_checkItem_224 (D : JD) (d : Nat) (Q : JO → JH → Prop) (K185 : Nat → Nat → Nat → Int32 → JH → Prop) (K224 : Nat → Nat → Nat → Int32 → Int32 → JH → Prop) (r0 : Nat) (r1 : Nat) (r3 : Nat) (x5 : Int32) (x6 : Int32) (h : JH) : Prop :=
  r0 ≠ 0 ∧ ((jfr h 200 r0) ≠ 0 ∧ jin x5 (jln h (jfr h 200 r0)) ∧ ((jar h (jfr h 200 r0) (ixn x5)) ≠ 0 ∧ (((jfi h 250 (jar h (jfr h 200 r0) (ixn x5))) ≤ x6 → W_X8_checkItem_321 D d Q K185 r0 r1 r3 x5 h) ∧ (¬ (jfi h 250 (jar h (jfr h 200 r0) (ixn x5))) ≤ x6 → cX8_node D d (2 : Int32) (0 : Int32) h (pR D h 48 (fun v_8 h_6 => (jfr h_6 200 r0) ≠ 0 ∧ jin x5 (jln h_6 (jfr h_6 200 r0)) ∧ ((jar h_6 (jfr h_6 200 r0) (ixn x5)) ≠ 0 ∧ ((jfr h_6 251 (jar h_6 (jfr h_6 200 r0) (ixn x5))) ≠ 0 ∧ jin x6 (jln h_6 (jfr h_6 251 (jar h_6 (jfr h_6 200 r0) (ixn x5)))) ∧ (v_8 ≠ 0 ∧ ∀ h_15 : JH, h_15 = wfr h_6 307 v_8 (jar h_6 (jfr h_6 251 (jar h_6 (jfr h_6 200 r0) (ixn x5))) (ixn x6)) → (∀ h_17 : JH, h_17 = wfi h_15 313 v_8 x5 → (∀ h_19 : JH, h_19 = wfi h_17 314 v_8 x6 → ((jfr h_19 200 r0) ≠ 0 ∧ jin x5 (jln h_19 (jfr h_19 200 r0)) ∧ ((jar h_19 (jfr h_19 200 r0) (ixn x5)) ≠ 0 ∧ ((jfr h_19 252 (jar h_19 (jfr h_19 200 r0) (ixn x5))) ≠ 0 ∧ jin x6 (jln h_19 (jfr h_19 252 (jar h_19 (jfr h_19 200 r0) (ixn x5)))) ∧ (∀ h_26 : JH, h_26 = wfi h_19 312 v_8 (jai h_19 (jfr h_19 252 (jar h_19 (jfr h_19 200 r0) (ixn x5))) (ixn x6)) → (cX8_apart D d r0 r1 v_8 h_26 (pV D h_26 (fun h_28 => cX8_add D d r0 r1 v_8 (jfr h_28 307 v_8) h_28 (pV D h_28 (fun h_31 => K224 r0 r1 r3 x5 (x6 + (1 : Int32)) h_31) (jth Q))) (jth Q))))))))))))) (jth Q))))))
theorem w_X8_checkItem_224 {D : JD} {d : Nat} {Q : JO → JH → Prop} {K185 : Nat → Nat → Nat → Int32 → JH → Prop} {K224 : Nat → Nat → Nat → Int32 → Int32 → JH → Prop} {r0 : Nat} {r1 : Nat} {r3 : Nat} {x5 : Int32} {x6 : Int32} {h : JH} (hK185 : ∀ (r0 : Nat) (r1 : Nat) (r3 : Nat) (x5 : Int32) (h : JH), K185 r0 r1 r3 x5 h → JW D (d + 1) mX8_checkItem 185 [some (vR 41 r0), some (vR 47 r1), none, some (vR 48 r3), none, some (vI x5), none, none] [] h Q) (hK224 : ∀ (r0 : Nat) (r1 : Nat) (r3 : Nat) (x5 : Int32) (x6 : Int32) (h : JH), K224 r0 r1 r3 x5 x6 h → JW D (d + 1) mX8_checkItem 224 [some (vR 41 r0), some (vR 47 r1), none, some (vR 48 r3), none, some (vI x5), some (vI x6), none] [] h Q) (w : W_X8_checkItem_224 D d Q K185 K224 r0 r1 r3 x5 x6 h) : JW D (d + 1) mX8_checkItem 224 [some (vR 41 r0), some (vR 47 r1), none, some (vR 48 r3), none, some (vI x5), some (vI x6), none] [] h Q := by
  unfold W_X8_checkItem_224 at w
  refine jw_iload (pc' := 226) rfl rfl ?_
  refine jw_aload_n (pc' := 227) rfl rfl ?_
  obtain ⟨g_1, w⟩ := w
  refine jw_getR (pc' := 230) (F := 200) (t' := 167) rfl rfl rfl rfl rfl g_1 ?_
  refine jw_iload (pc' := 232) rfl rfl ?_
  obtain ⟨g_2, w⟩ := w
  obtain ⟨g_3, w⟩ := w
  refine jw_aald (pc' := 233) (t' := 44) rfl rfl rfl rfl g_2 g_3.ix g_3.2 ?_
  obtain ⟨g_4, w⟩ := w
  refine jw_getI (pc' := 236) (F := 250) rfl rfl rfl rfl g_4 ?_
  refine jw_icmp_ge (tgt := 321) (pc' := 239) rfl rfl (fun c_5 => ?_) (fun c_5 => ?_)
  · replace w := w.1 c_5
    refine jw_gen (ls' := [some (vR 41 r0), some (vR 47 r1), none, some (vR 48 r3), none, some (vI x5), none, none]) (st' := []) (And.intro (Or.inl rfl) (And.intro (Or.inl rfl) (And.intro (Or.inl rfl) (And.intro (Or.inl rfl) (trivial))))) (trivial) ?_
    exact w_X8_checkItem_321 hK185 w
  · replace w := w.2 c_5
    refine jw_iconst (pc' := 240) (x := (2 : Int32)) rfl rfl ?_
    refine jw_iconst (pc' := 241) (x := (0 : Int32)) rfl rfl ?_
    refine jw_cR (st := []) (sa := [vI (2 : Int32), vI (0 : Int32)]) okX8_node rfl rfl rfl rfl rfl rfl (jstp_static (sa := [vI (2 : Int32), vI (0 : Int32)]) (st := []) rfl rfl sX8_node okX8_node rfl rfl) w (fun v_8 h_6 _ _ _ w => ?_)
    refine jw_astore (pc' := 246) (ls' := [some (vR 41 r0), some (vR 47 r1), none, some (vR 48 r3), none, some (vI x5), some (vI x6), some (vR 48 v_8)]) rfl (by decide) rfl ?_
    refine jw_aload (pc' := 248) rfl rfl ?_
    refine jw_aload_n (pc' := 249) rfl rfl ?_
    refine jw_getR (pc' := 252) (F := 200) (t' := 167) rfl rfl rfl rfl rfl g_1 ?_
    refine jw_iload (pc' := 254) rfl rfl ?_
    obtain ⟨g_9, w⟩ := w
    obtain ⟨g_10, w⟩ := w
    refine jw_aald (pc' := 255) (t' := 44) rfl rfl rfl rfl g_9 g_10.ix g_10.2 ?_
    obtain ⟨g_11, w⟩ := w
    refine jw_getR (pc' := 258) (F := 251) (t' := 188) rfl rfl rfl rfl rfl g_11 ?_
    refine jw_iload (pc' := 260) rfl rfl ?_
    obtain ⟨g_12, w⟩ := w
    obtain ⟨g_13, w⟩ := w
    refine jw_aald (pc' := 261) (t' := 64) rfl rfl rfl rfl g_12 g_13.ix g_13.2 ?_
    obtain ⟨g_14, w⟩ := w
    refine jw_putR' (pc' := 264) (F := 307) rfl rfl rfl (Or.inr rfl) (Or.inl rfl) rfl rfl rfl g_14 (fun h_15 e_16 => ?_)
    replace w := w h_15 e_16
    refine jw_aload (pc' := 266) rfl rfl ?_
    refine jw_iload (pc' := 268) rfl rfl ?_
    refine jw_putI' (pc' := 271) (F := 313) rfl rfl rfl (Or.inr rfl) (Or.inl rfl) rfl (rfl) (rfl) rfl g_14 (fun h_17 e_18 => ?_)
    replace w := w h_17 e_18
    refine jw_aload (pc' := 273) rfl rfl ?_
    refine jw_iload (pc' := 275) rfl rfl ?_
    refine jw_putI' (pc' := 278) (F := 314) rfl rfl rfl (Or.inr rfl) (Or.inl rfl) rfl (rfl) (rfl) rfl g_14 (fun h_19 e_20 => ?_)
    replace w := w h_19 e_20
    refine jw_aload (pc' := 280) rfl rfl ?_
    refine jw_aload_n (pc' := 281) rfl rfl ?_
    refine jw_getR (pc' := 284) (F := 200) (t' := 167) rfl rfl rfl rfl rfl g_1 ?_
    refine jw_iload (pc' := 286) rfl rfl ?_
    obtain ⟨g_21, w⟩ := w
    obtain ⟨g_22, w⟩ := w
    refine jw_aald (pc' := 287) (t' := 44) rfl rfl rfl rfl g_21 g_22.ix g_22.2 ?_
    obtain ⟨g_23, w⟩ := w
    refine jw_getR (pc' := 290) (F := 252) (t' := 189) rfl rfl rfl rfl rfl g_23 ?_
    refine jw_iload (pc' := 292) rfl rfl ?_
    obtain ⟨g_24, w⟩ := w
    obtain ⟨g_25, w⟩ := w
    refine jw_iald (pc' := 293) rfl rfl rfl rfl g_24 g_25.ix g_25.2 ?_
    refine jw_putI' (pc' := 296) (F := 312) rfl rfl rfl (Or.inr rfl) (Or.inl rfl) rfl (rfl) (rfl) rfl g_14 (fun h_26 e_27 => ?_)
    replace w := w h_26 e_27
    refine jw_aload_n (pc' := 297) rfl rfl ?_
    refine jw_aload_n (pc' := 298) rfl rfl ?_
    refine jw_aload (pc' := 300) rfl rfl ?_
    refine jw_cV (st := []) (sa := [vR 41 r0, vR 47 r1, vR 48 v_8]) okX8_apart rfl rfl rfl rfl rfl rfl (jstp_virtual (sa := [vR 47 r1, vR 48 v_8]) (st := []) (k := 0) rfl rfl sX8_apart okX8_apart g_1 (one41.k g_1) rfl rfl) w (fun h_28 _ _ w => ?_)
    refine jw_aload_n (pc' := 304) rfl rfl ?_
    refine jw_aload_n (pc' := 305) rfl rfl ?_
    refine jw_aload (pc' := 307) rfl rfl ?_
    refine jw_aload (pc' := 309) rfl rfl ?_
    refine jw_getR (pc' := 312) (F := 307) (t' := 64) rfl rfl rfl rfl rfl g_14 ?_
    refine jw_cV (st := []) (sa := [vR 41 r0, vR 47 r1, vR 48 v_8, vR 64 (jfr h_28 307 v_8)]) okX8_add rfl rfl rfl rfl rfl rfl (jstp_virtual (sa := [vR 47 r1, vR 48 v_8, vR 64 (jfr h_28 307 v_8)]) (st := []) (k := 0) rfl rfl sX8_add okX8_add g_1 (one41.k g_1) rfl rfl) w (fun h_31 _ _ w => ?_)
    refine jw_iinc (pc' := 318) (y := x6 + (1 : Int32)) (ls' := [some (vR 41 r0), some (vR 47 r1), none, some (vR 48 r3), none, some (vI x5), some (vI (x6 + (1 : Int32))), some (vR 48 v_8)]) rfl (by decide) rfl rfl rfl ?_
    refine jw_goto (pc' := 224) rfl rfl ?_
    refine jw_gen (ls' := [some (vR 41 r0), some (vR 47 r1), none, some (vR 48 r3), none, some (vI x5), some (vI (x6 + (1 : Int32))), none]) (st' := []) (And.intro (Or.inl rfl) (And.intro (Or.inl rfl) (And.intro (Or.inl rfl) (And.intro (Or.inl rfl) (And.intro (Or.inl rfl) (trivial)))))) (trivial) ?_
    exact hK224 _ _ _ _ _ _ w
def L_X8_checkItem_224 (D : JD) (d : Nat) (Q : JO → JH → Prop) (K185 : Nat → Nat → Nat → Int32 → JH → Prop) : Nat → Nat → Nat → Nat → Int32 → Int32 → JH → Prop
  | 0 => fun _ _ _ _ _ _ => False
  | n + 1 => fun r0 r1 r3 x5 x6 h => W_X8_checkItem_224 D d Q K185 (L_X8_checkItem_224 D d Q K185 n) r0 r1 r3 x5 x6 h
theorem l_X8_checkItem_224 {D : JD} {d : Nat} {Q : JO → JH → Prop} {K185 : Nat → Nat → Nat → Int32 → JH → Prop} (hK185 : ∀ (r0 : Nat) (r1 : Nat) (r3 : Nat) (x5 : Int32) (h : JH), K185 r0 r1 r3 x5 h → JW D (d + 1) mX8_checkItem 185 [some (vR 41 r0), some (vR 47 r1), none, some (vR 48 r3), none, some (vI x5), none, none] [] h Q) : ∀ (n : Nat) (r0 : Nat) (r1 : Nat) (r3 : Nat) (x5 : Int32) (x6 : Int32) (h : JH), L_X8_checkItem_224 D d Q K185 n r0 r1 r3 x5 x6 h → JW D (d + 1) mX8_checkItem 224 [some (vR 41 r0), some (vR 47 r1), none, some (vR 48 r3), none, some (vI x5), some (vI x6), none] [] h Q := by
  intro n
  induction n with
  | zero => intro _ _ _ _ _ _ w; exact w.elim
  | succ n ih => intro _ _ _ _ _ h w; exact w_X8_checkItem_224 hK185 ih w
def W_X8_checkItem_221 (D : JD) (d : Nat) (Q : JO → JH → Prop) (K185 : Nat → Nat → Nat → Int32 → JH → Prop) (r0 : Nat) (r1 : Nat) (r3 : Nat) (x5 : Int32) (h : JH) : Prop :=
  ∃ n, L_X8_checkItem_224 D d Q K185 n r0 r1 r3 x5 (0 : Int32) h
theorem w_X8_checkItem_221 {D : JD} {d : Nat} {Q : JO → JH → Prop} {K185 : Nat → Nat → Nat → Int32 → JH → Prop} {r0 : Nat} {r1 : Nat} {r3 : Nat} {x5 : Int32} {h : JH} (hK185 : ∀ (r0 : Nat) (r1 : Nat) (r3 : Nat) (x5 : Int32) (h : JH), K185 r0 r1 r3 x5 h → JW D (d + 1) mX8_checkItem 185 [some (vR 41 r0), some (vR 47 r1), none, some (vR 48 r3), none, some (vI x5), none, none] [] h Q) (w : W_X8_checkItem_221 D d Q K185 r0 r1 r3 x5 h) : JW D (d + 1) mX8_checkItem 221 [some (vR 41 r0), some (vR 47 r1), none, some (vR 48 r3), none, some (vI x5), none, none] [] h Q := by
  unfold W_X8_checkItem_221 at w
  refine jw_iconst (pc' := 222) (x := (0 : Int32)) rfl rfl ?_
  refine jw_istore (pc' := 224) (ls' := [some (vR 41 r0), some (vR 47 r1), none, some (vR 48 r3), none, some (vI x5), some (vI (0 : Int32)), none]) rfl (by decide) rfl ?_
  obtain ⟨n, w⟩ := w
  exact l_X8_checkItem_224 hK185 n _ _ _ _ _ _ w
def W_X8_checkItem_185 (D : JD) (d : Nat) (Q : JO → JH → Prop) (K185 : Nat → Nat → Nat → Int32 → JH → Prop) (r0 : Nat) (r1 : Nat) (r3 : Nat) (x5 : Int32) (h : JH) : Prop :=
  r1 ≠ 0 ∧ (((jfi h 290 r1) ≤ x5 → Q (.inl none) h) ∧ (¬ (jfi h 290 r1) ≤ x5 → r3 ≠ 0 ∧ (((jfr h 308 r3) = 0 → W_X8_checkItem_221 D d Q K185 r0 r1 r3 x5 h) ∧ ((jfr h 308 r3) ≠ 0 → (jfr h 287 r1) ≠ 0 ∧ jin x5 (jln h (jfr h 287 r1)) ∧ ((jar h (jfr h 287 r1) (ixn x5)) ≠ 0 ∧ (cJ5_equals D d (jar h (jfr h 287 r1) (ixn x5)) (jfr h 308 r3) h (pI D h (fun v_10 h_8 => (¬ v_10 = 0 → W_X8_checkItem_221 D d Q K185 r0 r1 r3 x5 h_8) ∧ (v_10 = 0 → W_X8_checkItem_321 D d Q K185 r0 r1 r3 x5 h_8)) (jth Q))))))))
theorem w_X8_checkItem_185 {D : JD} {d : Nat} {Q : JO → JH → Prop} {K185 : Nat → Nat → Nat → Int32 → JH → Prop} {r0 : Nat} {r1 : Nat} {r3 : Nat} {x5 : Int32} {h : JH} (hK185 : ∀ (r0 : Nat) (r1 : Nat) (r3 : Nat) (x5 : Int32) (h : JH), K185 r0 r1 r3 x5 h → JW D (d + 1) mX8_checkItem 185 [some (vR 41 r0), some (vR 47 r1), none, some (vR 48 r3), none, some (vI x5), none, none] [] h Q) (w : W_X8_checkItem_185 D d Q K185 r0 r1 r3 x5 h) : JW D (d + 1) mX8_checkItem 185 [some (vR 41 r0), some (vR 47 r1), none, some (vR 48 r3), none, some (vI x5), none, none] [] h Q := by
  unfold W_X8_checkItem_185 at w
  refine jw_iload (pc' := 187) rfl rfl ?_
  refine jw_aload_n (pc' := 188) rfl rfl ?_
  obtain ⟨g_1, w⟩ := w
  refine jw_getI (pc' := 191) (F := 290) rfl rfl rfl rfl g_1 ?_
  refine jw_icmp_ge (tgt := 327) (pc' := 194) rfl rfl (fun c_2 => ?_) (fun c_2 => ?_)
  · replace w := w.1 c_2
    exact jw_return rfl rfl w
  · replace w := w.2 c_2
    refine jw_aload_n (pc' := 195) rfl rfl ?_
    obtain ⟨g_3, w⟩ := w
    refine jw_getR (pc' := 198) (F := 308) (t' := 64) rfl rfl rfl rfl rfl g_3 ?_
    refine jw_ifnull (tgt := 221) (pc' := 201) rfl rfl (fun c_4 => ?_) (fun c_4 => ?_)
    · replace w := w.1 c_4
      exact w_X8_checkItem_221 hK185 w
    · replace w := w.2 c_4
      refine jw_aload_n (pc' := 202) rfl rfl ?_
      refine jw_getR (pc' := 205) (F := 287) (t' := 206) rfl rfl rfl rfl rfl g_1 ?_
      refine jw_iload (pc' := 207) rfl rfl ?_
      obtain ⟨g_5, w⟩ := w
      obtain ⟨g_6, w⟩ := w
      refine jw_aald (pc' := 208) (t' := 64) rfl rfl rfl rfl g_5 g_6.ix g_6.2 ?_
      refine jw_aload_n (pc' := 209) rfl rfl ?_
      refine jw_getR (pc' := 212) (F := 308) (t' := 64) rfl rfl rfl rfl rfl g_3 ?_
      obtain ⟨g_7, w⟩ := w
      refine jw_cI (st := []) (sa := [vR 64 (jar h (jfr h 287 r1) (ixn x5)), vR 64 (jfr h 308 r3)]) okJ5_equals rfl rfl rfl rfl rfl rfl (jstp_virtual (sa := [vR 64 (jfr h 308 r3)]) (st := []) (k := 0) rfl rfl sJ5_equals okJ5_equals g_7 (one64.k g_7) rfl rfl) w (fun v_10 h_8 _ _ w => ?_)
      refine jw_if_ne (tgt := 221) (pc' := 218) rfl rfl (fun c_11 => ?_) (fun c_11 => ?_)
      · replace w := w.1 c_11
        exact w_X8_checkItem_221 hK185 w
      · replace w := w.2 c_11
        refine jw_goto (pc' := 321) rfl rfl ?_
        exact w_X8_checkItem_321 hK185 w
def L_X8_checkItem_185 (D : JD) (d : Nat) (Q : JO → JH → Prop) : Nat → Nat → Nat → Nat → Int32 → JH → Prop
  | 0 => fun _ _ _ _ _ => False
  | n + 1 => fun r0 r1 r3 x5 h => W_X8_checkItem_185 D d Q (L_X8_checkItem_185 D d Q n) r0 r1 r3 x5 h
theorem l_X8_checkItem_185 {D : JD} {d : Nat} {Q : JO → JH → Prop} : ∀ (n : Nat) (r0 : Nat) (r1 : Nat) (r3 : Nat) (x5 : Int32) (h : JH), L_X8_checkItem_185 D d Q n r0 r1 r3 x5 h → JW D (d + 1) mX8_checkItem 185 [some (vR 41 r0), some (vR 47 r1), none, some (vR 48 r3), none, some (vI x5), none, none] [] h Q := by
  intro n
  induction n with
  | zero => intro _ _ _ _ _ w; exact w.elim
  | succ n ih => intro _ _ _ _ h w; exact w_X8_checkItem_185 ih w
def W_X8_checkItem_139 (D : JD) (d : Nat) (Q : JO → JH → Prop) (K139 : Nat → Nat → Nat → Int32 → Int32 → JH → Prop) (r0 : Nat) (r1 : Nat) (r3 : Nat) (x4 : Int32) (x5 : Int32) (h : JH) : Prop :=
  r1 ≠ 0 ∧ (((jfi h 290 r1) ≤ x5 → r0 ≠ 0 ∧ (cX8_must D d r0 x4 (jcs D 303) h (pV D h (fun h_4 => ∃ n, L_X8_checkItem_185 D d Q n r0 r1 r3 (0 : Int32) h_4) (jth Q)))) ∧ (¬ (jfi h 290 r1) ≤ x5 → (jfr h 287 r1) ≠ 0 ∧ jin x5 (jln h (jfr h 287 r1)) ∧ (r3 ≠ 0 ∧ ((jar h (jfr h 287 r1) (ixn x5)) ≠ 0 ∧ (cJ5_equals D d (jar h (jfr h 287 r1) (ixn x5)) (jfr h 308 r3) h (pI D h (fun v_13 h_11 => K139 r0 r1 r3 (x4 ||| v_13) (x5 + (1 : Int32)) h_11) (jth Q)))))))
theorem w_X8_checkItem_139 {D : JD} {d : Nat} {Q : JO → JH → Prop} {K139 : Nat → Nat → Nat → Int32 → Int32 → JH → Prop} {r0 : Nat} {r1 : Nat} {r3 : Nat} {x4 : Int32} {x5 : Int32} {h : JH} (hK139 : ∀ (r0 : Nat) (r1 : Nat) (r3 : Nat) (x4 : Int32) (x5 : Int32) (h : JH), K139 r0 r1 r3 x4 x5 h → JW D (d + 1) mX8_checkItem 139 [some (vR 41 r0), some (vR 47 r1), none, some (vR 48 r3), some (vI x4), some (vI x5), none, none] [] h Q) (w : W_X8_checkItem_139 D d Q K139 r0 r1 r3 x4 x5 h) : JW D (d + 1) mX8_checkItem 139 [some (vR 41 r0), some (vR 47 r1), none, some (vR 48 r3), some (vI x4), some (vI x5), none, none] [] h Q := by
  unfold W_X8_checkItem_139 at w
  refine jw_iload (pc' := 141) rfl rfl ?_
  refine jw_aload_n (pc' := 142) rfl rfl ?_
  obtain ⟨g_1, w⟩ := w
  refine jw_getI (pc' := 145) (F := 290) rfl rfl rfl rfl g_1 ?_
  refine jw_icmp_ge (tgt := 173) (pc' := 148) rfl rfl (fun c_2 => ?_) (fun c_2 => ?_)
  · replace w := w.1 c_2
    refine jw_aload_n (pc' := 174) rfl rfl ?_
    refine jw_iload (pc' := 176) rfl rfl ?_
    refine jw_ldcwS (pc' := 179) rfl rfl rfl rfl ?_
    obtain ⟨g_3, w⟩ := w
    refine jw_cV (st := []) (sa := [vR 41 r0, vI x4, vR 51 (jcs D 303)]) okX8_must rfl rfl rfl rfl rfl rfl (jstp_virtual (sa := [vI x4, vR 51 (jcs D 303)]) (st := []) (k := 0) rfl rfl sX8_must okX8_must g_3 (one41.k g_3) rfl rfl) w (fun h_4 _ _ w => ?_)
    refine jw_iconst (pc' := 183) (x := (0 : Int32)) rfl rfl ?_
    refine jw_istore (pc' := 185) (ls' := [some (vR 41 r0), some (vR 47 r1), none, some (vR 48 r3), some (vI x4), some (vI (0 : Int32)), none, none]) rfl (by decide) rfl ?_
    refine jw_gen (ls' := [some (vR 41 r0), some (vR 47 r1), none, some (vR 48 r3), none, some (vI (0 : Int32)), none, none]) (st' := []) (And.intro (Or.inl rfl) (And.intro (Or.inl rfl) (And.intro (Or.inl rfl) (And.intro (Or.inl rfl) (trivial))))) (trivial) ?_
    obtain ⟨n, w⟩ := w
    exact l_X8_checkItem_185 n _ _ _ _ _ w
  · replace w := w.2 c_2
    refine jw_iload (pc' := 150) rfl rfl ?_
    refine jw_aload_n (pc' := 151) rfl rfl ?_
    refine jw_getR (pc' := 154) (F := 287) (t' := 206) rfl rfl rfl rfl rfl g_1 ?_
    refine jw_iload (pc' := 156) rfl rfl ?_
    obtain ⟨g_7, w⟩ := w
    obtain ⟨g_8, w⟩ := w
    refine jw_aald (pc' := 157) (t' := 64) rfl rfl rfl rfl g_7 g_8.ix g_8.2 ?_
    refine jw_aload_n (pc' := 158) rfl rfl ?_
    obtain ⟨g_9, w⟩ := w
    refine jw_getR (pc' := 161) (F := 308) (t' := 64) rfl rfl rfl rfl rfl g_9 ?_
    obtain ⟨g_10, w⟩ := w
    refine jw_cI (st := [vI x4]) (sa := [vR 64 (jar h (jfr h 287 r1) (ixn x5)), vR 64 (jfr h 308 r3)]) okJ5_equals rfl rfl rfl rfl rfl rfl (jstp_virtual (sa := [vR 64 (jfr h 308 r3)]) (st := [vI x4]) (k := 0) rfl rfl sJ5_equals okJ5_equals g_10 (one64.k g_10) rfl rfl) w (fun v_13 h_11 _ _ w => ?_)
    refine jw_ior (pc' := 165) rfl ?_
    refine jw_istore (pc' := 167) (ls' := [some (vR 41 r0), some (vR 47 r1), none, some (vR 48 r3), some (vI (x4 ||| v_13)), some (vI x5), none, none]) rfl (by decide) rfl ?_
    refine jw_iinc (pc' := 170) (y := x5 + (1 : Int32)) (ls' := [some (vR 41 r0), some (vR 47 r1), none, some (vR 48 r3), some (vI (x4 ||| v_13)), some (vI (x5 + (1 : Int32))), none, none]) rfl (by decide) rfl rfl rfl ?_
    refine jw_goto (pc' := 139) rfl rfl ?_
    exact hK139 _ _ _ _ _ _ w
def L_X8_checkItem_139 (D : JD) (d : Nat) (Q : JO → JH → Prop) : Nat → Nat → Nat → Nat → Int32 → Int32 → JH → Prop
  | 0 => fun _ _ _ _ _ _ => False
  | n + 1 => fun r0 r1 r3 x4 x5 h => W_X8_checkItem_139 D d Q (L_X8_checkItem_139 D d Q n) r0 r1 r3 x4 x5 h
theorem l_X8_checkItem_139 {D : JD} {d : Nat} {Q : JO → JH → Prop} : ∀ (n : Nat) (r0 : Nat) (r1 : Nat) (r3 : Nat) (x4 : Int32) (x5 : Int32) (h : JH), L_X8_checkItem_139 D d Q n r0 r1 r3 x4 x5 h → JW D (d + 1) mX8_checkItem 139 [some (vR 41 r0), some (vR 47 r1), none, some (vR 48 r3), some (vI x4), some (vI x5), none, none] [] h Q := by
  intro n
  induction n with
  | zero => intro _ _ _ _ _ _ w; exact w.elim
  | succ n ih => intro _ _ _ _ _ h w; exact w_X8_checkItem_139 ih w
def W_X8_checkItem_134 (D : JD) (d : Nat) (Q : JO → JH → Prop) (r0 : Nat) (r1 : Nat) (r3 : Nat) (s0 : Int32) (h : JH) : Prop :=
  ∃ n, L_X8_checkItem_139 D d Q n r0 r1 r3 s0 (0 : Int32) h
theorem w_X8_checkItem_134 {D : JD} {d : Nat} {Q : JO → JH → Prop} {r0 : Nat} {r1 : Nat} {r3 : Nat} {s0 : Int32} {h : JH} (w : W_X8_checkItem_134 D d Q r0 r1 r3 s0 h) : JW D (d + 1) mX8_checkItem 134 [some (vR 41 r0), some (vR 47 r1), none, some (vR 48 r3), none, none, none, none] [vI s0] h Q := by
  unfold W_X8_checkItem_134 at w
  refine jw_istore (pc' := 136) (ls' := [some (vR 41 r0), some (vR 47 r1), none, some (vR 48 r3), some (vI s0), none, none, none]) rfl (by decide) rfl ?_
  refine jw_iconst (pc' := 137) (x := (0 : Int32)) rfl rfl ?_
  refine jw_istore (pc' := 139) (ls' := [some (vR 41 r0), some (vR 47 r1), none, some (vR 48 r3), some (vI s0), some (vI (0 : Int32)), none, none]) rfl (by decide) rfl ?_
  obtain ⟨n, w⟩ := w
  exact l_X8_checkItem_139 n _ _ _ _ _ _ w
def W_X8_checkItem_122 (D : JD) (d : Nat) (Q : JO → JH → Prop) (r0 : Nat) (r1 : Nat) (r3 : Nat) (h : JH) : Prop :=
  r3 ≠ 0 ∧ (((jfr h 308 r3) ≠ 0 → W_X8_checkItem_134 D d Q r0 r1 r3 (0 : Int32) h) ∧ ((jfr h 308 r3) = 0 → W_X8_checkItem_134 D d Q r0 r1 r3 (1 : Int32) h))
theorem w_X8_checkItem_122 {D : JD} {d : Nat} {Q : JO → JH → Prop} {r0 : Nat} {r1 : Nat} {r3 : Nat} {h : JH} (w : W_X8_checkItem_122 D d Q r0 r1 r3 h) : JW D (d + 1) mX8_checkItem 122 [some (vR 41 r0), some (vR 47 r1), none, some (vR 48 r3), none, none, none, none] [] h Q := by
  unfold W_X8_checkItem_122 at w
  refine jw_aload_n (pc' := 123) rfl rfl ?_
  obtain ⟨g_1, w⟩ := w
  refine jw_getR (pc' := 126) (F := 308) (t' := 64) rfl rfl rfl rfl rfl g_1 ?_
  refine jw_ifnonnull (tgt := 133) (pc' := 129) rfl rfl (fun c_2 => ?_) (fun c_2 => ?_)
  · replace w := w.1 c_2
    refine jw_iconst (pc' := 134) (x := (0 : Int32)) rfl rfl ?_
    exact w_X8_checkItem_134 w
  · replace w := w.2 c_2
    refine jw_iconst (pc' := 130) (x := (1 : Int32)) rfl rfl ?_
    refine jw_goto (pc' := 134) rfl rfl ?_
    exact w_X8_checkItem_134 w
def W_X8_checkItem_117 (D : JD) (d : Nat) (Q : JO → JH → Prop) (r0 : Nat) (r1 : Nat) (r3 : Nat) (q0 : Nat) (s1 : Int32) (h : JH) : Prop :=
  q0 ≠ 0 ∧ (cX8_must D d q0 s1 (jcs D 236) h (pV D h (fun h_2 => W_X8_checkItem_122 D d Q r0 r1 r3 h_2) (jth Q)))
theorem w_X8_checkItem_117 {D : JD} {d : Nat} {Q : JO → JH → Prop} {r0 : Nat} {r1 : Nat} {r3 : Nat} {q0 : Nat} {s1 : Int32} {h : JH} (w : W_X8_checkItem_117 D d Q r0 r1 r3 q0 s1 h) : JW D (d + 1) mX8_checkItem 117 [some (vR 41 r0), some (vR 47 r1), none, some (vR 48 r3), none, none, none, none] [vI s1, vR 41 q0] h Q := by
  unfold W_X8_checkItem_117 at w
  refine jw_ldcS (pc' := 119) rfl rfl rfl rfl ?_
  obtain ⟨g_1, w⟩ := w
  refine jw_cV (st := []) (sa := [vR 41 q0, vI s1, vR 51 (jcs D 236)]) okX8_must rfl rfl rfl rfl rfl rfl (jstp_virtual (sa := [vI s1, vR 51 (jcs D 236)]) (st := []) (k := 0) rfl rfl sX8_must okX8_must g_1 (one41.k g_1) rfl rfl) w (fun h_2 _ _ w => ?_)
  exact w_X8_checkItem_122 w
def W_X8_checkItem_86 (D : JD) (d : Nat) (Q : JO → JH → Prop) (r0 : Nat) (r1 : Nat) (r3 : Nat) (q0 : Nat) (h : JH) : Prop :=
  r0 ≠ 0 ∧ (cX8_add D d r0 r1 r3 q0 h (pV D h (fun h_2 => Q (.inl none) h_2) (jth Q)))
theorem w_X8_checkItem_86 {D : JD} {d : Nat} {Q : JO → JH → Prop} {r0 : Nat} {r1 : Nat} {r3 : Nat} {q0 : Nat} {h : JH} (w : W_X8_checkItem_86 D d Q r0 r1 r3 q0 h) : JW D (d + 1) mX8_checkItem 86 [some (vR 41 r0), some (vR 47 r1), none, some (vR 48 r3), none, none, none, none] [vR 64 q0] h Q := by
  unfold W_X8_checkItem_86 at w
  refine jw_astore (pc' := 88) (ls' := [some (vR 41 r0), some (vR 47 r1), none, some (vR 48 r3), some (vR 64 q0), none, none, none]) rfl (by decide) rfl ?_
  refine jw_aload_n (pc' := 89) rfl rfl ?_
  refine jw_aload_n (pc' := 90) rfl rfl ?_
  refine jw_aload_n (pc' := 91) rfl rfl ?_
  refine jw_aload (pc' := 93) rfl rfl ?_
  obtain ⟨g_1, w⟩ := w
  refine jw_cV (st := []) (sa := [vR 41 r0, vR 47 r1, vR 48 r3, vR 64 q0]) okX8_add rfl rfl rfl rfl rfl rfl (jstp_virtual (sa := [vR 47 r1, vR 48 r3, vR 64 q0]) (st := []) (k := 0) rfl rfl sX8_add okX8_add g_1 (one41.k g_1) rfl rfl) w (fun h_2 _ _ w => ?_)
  exact jw_return rfl rfl w
def W_X8_checkItem_62 (D : JD) (d : Nat) (Q : JO → JH → Prop) (r0 : Nat) (r1 : Nat) (r3 : Nat) (h : JH) : Prop :=
  r3 ≠ 0 ∧ (W_X8_checkItem_86 D d Q r0 r1 r3 (jfr h 307 r3) h)
theorem w_X8_checkItem_62 {D : JD} {d : Nat} {Q : JO → JH → Prop} {r0 : Nat} {r1 : Nat} {r3 : Nat} {h : JH} (w : W_X8_checkItem_62 D d Q r0 r1 r3 h) : JW D (d + 1) mX8_checkItem 62 [some (vR 41 r0), some (vR 47 r1), none, some (vR 48 r3), none, none, none, none] [] h Q := by
  unfold W_X8_checkItem_62 at w
  refine jw_aload_n (pc' := 63) rfl rfl ?_
  obtain ⟨g_1, w⟩ := w
  refine jw_getR (pc' := 66) (F := 307) (t' := 64) rfl rfl rfl rfl rfl g_1 ?_
  refine jw_goto (pc' := 86) rfl rfl ?_
  exact w_X8_checkItem_86 w
def W_X8_checkItem_0 (D : JD) (d : Nat) (Q : JO → JH → Prop) (r0 : Nat) (r1 : Nat) (x2 : Int32) (h : JH) : Prop :=
  r1 ≠ 0 ∧ ((jfr h 284 r1) ≠ 0 ∧ jin x2 (jln h (jfr h 284 r1)) ∧ ((jar h (jfr h 284 r1) (ixn x2)) ≠ 0 ∧ (((jfi h 305 (jar h (jfr h 284 r1) (ixn x2))) = (15 : Int32) → ((jfr h 308 (jar h (jfr h 284 r1) (ixn x2))) ≠ 0 → W_X8_checkItem_122 D d Q r0 r1 (jar h (jfr h 284 r1) (ixn x2)) h) ∧ ((jfr h 308 (jar h (jfr h 284 r1) (ixn x2))) = 0 → ((jfi h 290 r1) ≤ 0 → W_X8_checkItem_117 D d Q r0 r1 (jar h (jfr h 284 r1) (ixn x2)) r0 (0 : Int32) h) ∧ (¬ (jfi h 290 r1) ≤ 0 → W_X8_checkItem_117 D d Q r0 r1 (jar h (jfr h 284 r1) (ixn x2)) r0 (1 : Int32) h))) ∧ (¬ (jfi h 305 (jar h (jfr h 284 r1) (ixn x2))) = (15 : Int32) → r0 ≠ 0 ∧ (cX8_check_2 D d r0 (jar h (jfr h 284 r1) (ixn x2)) h (pI D h (fun v_11 h_9 => cX8_apart D d r0 r1 (jar h (jfr h 284 r1) (ixn x2)) h_9 (pV D h_9 (fun h_12 => (jfr h_12 272 r1) ≠ 0 ∧ jin x2 (jln h_12 (jfr h_12 272 r1)) ∧ (((jar h_12 (jfr h_12 272 r1) (ixn x2)) = 0 → ((jfi h_12 305 (jar h (jfr h 284 r1) (ixn x2))) = (2 : Int32) → W_X8_checkItem_62 D d Q r0 r1 (jar h (jfr h 284 r1) (ixn x2)) h_12) ∧ (¬ (jfi h_12 305 (jar h (jfr h 284 r1) (ixn x2))) = (2 : Int32) → (¬ (jfi h_12 305 (jar h (jfr h 284 r1) (ixn x2))) = (3 : Int32) → (¬ (jfi h_12 305 (jar h (jfr h 284 r1) (ixn x2))) = (4 : Int32) → W_X8_checkItem_86 D d Q r0 r1 (jar h (jfr h 284 r1) (ixn x2)) (jcs D 322) h_12) ∧ ((jfi h_12 305 (jar h (jfr h 284 r1) (ixn x2))) = (4 : Int32) → W_X8_checkItem_86 D d Q r0 r1 (jar h (jfr h 284 r1) (ixn x2)) (jcs D 257) h_12)) ∧ ((jfi h_12 305 (jar h (jfr h 284 r1) (ixn x2))) = (3 : Int32) → W_X8_checkItem_62 D d Q r0 r1 (jar h (jfr h 284 r1) (ixn x2)) h_12))) ∧ ((jar h_12 (jfr h_12 272 r1) (ixn x2)) ≠ 0 → jin x2 (jln h_12 (jfr h_12 272 r1)) ∧ (W_X8_checkItem_86 D d Q r0 r1 (jar h (jfr h 284 r1) (ixn x2)) (jar h_12 (jfr h_12 272 r1) (ixn x2)) h_12)))) (jth Q))) (jth Q)))))))
theorem w_X8_checkItem_0 {D : JD} {d : Nat} {Q : JO → JH → Prop} {r0 : Nat} {r1 : Nat} {x2 : Int32} {h : JH} (w : W_X8_checkItem_0 D d Q r0 r1 x2 h) : JW D (d + 1) mX8_checkItem 0 [some (vR 41 r0), some (vR 47 r1), some (vI x2), none, none, none, none, none] [] h Q := by
  unfold W_X8_checkItem_0 at w
  refine jw_aload_n (pc' := 1) rfl rfl ?_
  obtain ⟨g_1, w⟩ := w
  refine jw_getR (pc' := 4) (F := 284) (t' := 204) rfl rfl rfl rfl rfl g_1 ?_
  refine jw_iload_n (pc' := 5) rfl rfl ?_
  obtain ⟨g_2, w⟩ := w
  obtain ⟨g_3, w⟩ := w
  refine jw_aald (pc' := 6) (t' := 48) rfl rfl rfl rfl g_2 g_3.ix g_3.2 ?_
  refine jw_astore_n (pc' := 7) (ls' := [some (vR 41 r0), some (vR 47 r1), some (vI x2), some (vR 48 (jar h (jfr h 284 r1) (ixn x2))), none, none, none, none]) rfl (by decide) rfl ?_
  refine jw_aload_n (pc' := 8) rfl rfl ?_
  obtain ⟨g_4, w⟩ := w
  refine jw_getI (pc' := 11) (F := 305) rfl rfl rfl rfl g_4 ?_
  refine jw_bipush (pc' := 13) (x := (15 : Int32)) rfl rfl ?_
  refine jw_icmp_eq (tgt := 97) (pc' := 16) rfl rfl (fun c_5 => ?_) (fun c_5 => ?_)
  · replace w := w.1 c_5
    refine jw_aload_n (pc' := 98) rfl rfl ?_
    refine jw_getR (pc' := 101) (F := 308) (t' := 64) rfl rfl rfl rfl rfl g_4 ?_
    refine jw_ifnonnull (tgt := 122) (pc' := 104) rfl rfl (fun c_6 => ?_) (fun c_6 => ?_)
    · replace w := w.1 c_6
      refine jw_gen (ls' := [some (vR 41 r0), some (vR 47 r1), none, some (vR 48 (jar h (jfr h 284 r1) (ixn x2))), none, none, none, none]) (st' := []) (And.intro (Or.inl rfl) (And.intro (Or.inl rfl) (And.intro (Or.inl rfl) (trivial)))) (trivial) ?_
      exact w_X8_checkItem_122 w
    · replace w := w.2 c_6
      refine jw_aload_n (pc' := 105) rfl rfl ?_
      refine jw_aload_n (pc' := 106) rfl rfl ?_
      refine jw_getI (pc' := 109) (F := 290) rfl rfl rfl rfl g_1 ?_
      refine jw_if_le (tgt := 116) (pc' := 112) rfl rfl (fun c_7 => ?_) (fun c_7 => ?_)
      · replace w := w.1 c_7
        refine jw_iconst (pc' := 117) (x := (0 : Int32)) rfl rfl ?_
        refine jw_gen (ls' := [some (vR 41 r0), some (vR 47 r1), none, some (vR 48 (jar h (jfr h 284 r1) (ixn x2))), none, none, none, none]) (st' := [vI (0 : Int32), vR 41 r0]) (And.intro (Or.inl rfl) (And.intro (Or.inl rfl) (And.intro (Or.inl rfl) (trivial)))) (And.intro (Or.inl rfl) (And.intro (Or.inl rfl) (trivial))) ?_
        exact w_X8_checkItem_117 w
      · replace w := w.2 c_7
        refine jw_iconst (pc' := 113) (x := (1 : Int32)) rfl rfl ?_
        refine jw_goto (pc' := 117) rfl rfl ?_
        refine jw_gen (ls' := [some (vR 41 r0), some (vR 47 r1), none, some (vR 48 (jar h (jfr h 284 r1) (ixn x2))), none, none, none, none]) (st' := [vI (1 : Int32), vR 41 r0]) (And.intro (Or.inl rfl) (And.intro (Or.inl rfl) (And.intro (Or.inl rfl) (trivial)))) (And.intro (Or.inl rfl) (And.intro (Or.inl rfl) (trivial))) ?_
        exact w_X8_checkItem_117 w
  · replace w := w.2 c_5
    refine jw_aload_n (pc' := 17) rfl rfl ?_
    refine jw_aload_n (pc' := 18) rfl rfl ?_
    obtain ⟨g_8, w⟩ := w
    refine jw_cI (st := []) (sa := [vR 41 r0, vR 48 (jar h (jfr h 284 r1) (ixn x2))]) okX8_check_2 rfl rfl rfl rfl rfl rfl (jstp_virtual (sa := [vR 48 (jar h (jfr h 284 r1) (ixn x2))]) (st := []) (k := 0) rfl rfl sX8_check_2 okX8_check_2 g_8 (one41.k g_8) rfl rfl) w (fun v_11 h_9 _ _ w => ?_)
    refine jw_pop (pc' := 22) rfl rfl ?_
    refine jw_aload_n (pc' := 23) rfl rfl ?_
    refine jw_aload_n (pc' := 24) rfl rfl ?_
    refine jw_aload_n (pc' := 25) rfl rfl ?_
    refine jw_cV (st := []) (sa := [vR 41 r0, vR 47 r1, vR 48 (jar h (jfr h 284 r1) (ixn x2))]) okX8_apart rfl rfl rfl rfl rfl rfl (jstp_virtual (sa := [vR 47 r1, vR 48 (jar h (jfr h 284 r1) (ixn x2))]) (st := []) (k := 0) rfl rfl sX8_apart okX8_apart g_8 (one41.k g_8) rfl rfl) w (fun h_12 _ _ w => ?_)
    refine jw_aload_n (pc' := 29) rfl rfl ?_
    refine jw_getR (pc' := 32) (F := 272) (t' := 198) rfl rfl rfl rfl rfl g_1 ?_
    refine jw_iload_n (pc' := 33) rfl rfl ?_
    obtain ⟨g_15, w⟩ := w
    obtain ⟨g_16, w⟩ := w
    refine jw_aald (pc' := 34) (t' := 64) rfl rfl rfl rfl g_15 g_16.ix g_16.2 ?_
    refine jw_ifnull (tgt := 46) (pc' := 37) rfl rfl (fun c_17 => ?_) (fun c_17 => ?_)
    · replace w := w.1 c_17
      refine jw_aload_n (pc' := 47) rfl rfl ?_
      refine jw_getI (pc' := 50) (F := 305) rfl rfl rfl rfl g_4 ?_
      refine jw_iconst (pc' := 51) (x := (2 : Int32)) rfl rfl ?_
      refine jw_icmp_eq (tgt := 62) (pc' := 54) rfl rfl (fun c_18 => ?_) (fun c_18 => ?_)
      · replace w := w.1 c_18
        refine jw_gen (ls' := [some (vR 41 r0), some (vR 47 r1), none, some (vR 48 (jar h (jfr h 284 r1) (ixn x2))), none, none, none, none]) (st' := []) (And.intro (Or.inl rfl) (And.intro (Or.inl rfl) (And.intro (Or.inl rfl) (trivial)))) (trivial) ?_
        exact w_X8_checkItem_62 w
      · replace w := w.2 c_18
        refine jw_aload_n (pc' := 55) rfl rfl ?_
        refine jw_getI (pc' := 58) (F := 305) rfl rfl rfl rfl g_4 ?_
        refine jw_iconst (pc' := 59) (x := (3 : Int32)) rfl rfl ?_
        refine jw_icmp_ne (tgt := 69) (pc' := 62) rfl rfl (fun c_19 => ?_) (fun c_19 => ?_)
        · replace w := w.1 c_19
          refine jw_aload_n (pc' := 70) rfl rfl ?_
          refine jw_getI (pc' := 73) (F := 305) rfl rfl rfl rfl g_4 ?_
          refine jw_iconst (pc' := 74) (x := (4 : Int32)) rfl rfl ?_
          refine jw_icmp_ne (tgt := 83) (pc' := 77) rfl rfl (fun c_20 => ?_) (fun c_20 => ?_)
          · replace w := w.1 c_20
            refine jw_ldcwS (pc' := 86) rfl rfl rfl rfl ?_
            refine jw_gen (ls' := [some (vR 41 r0), some (vR 47 r1), none, some (vR 48 (jar h (jfr h 284 r1) (ixn x2))), none, none, none, none]) (st' := [vR 64 (jcs D 322)]) (And.intro (Or.inl rfl) (And.intro (Or.inl rfl) (And.intro (Or.inl rfl) (trivial)))) (And.intro (Or.inr ⟨_, _, _, rfl, rfl, Or.inr (Or.inl rfl)⟩) (trivial)) ?_
            exact w_X8_checkItem_86 w
          · replace w := w.2 c_20
            refine jw_ldcwS (pc' := 80) rfl rfl rfl rfl ?_
            refine jw_goto (pc' := 86) rfl rfl ?_
            refine jw_gen (ls' := [some (vR 41 r0), some (vR 47 r1), none, some (vR 48 (jar h (jfr h 284 r1) (ixn x2))), none, none, none, none]) (st' := [vR 64 (jcs D 257)]) (And.intro (Or.inl rfl) (And.intro (Or.inl rfl) (And.intro (Or.inl rfl) (trivial)))) (And.intro (Or.inr ⟨_, _, _, rfl, rfl, Or.inr (Or.inl rfl)⟩) (trivial)) ?_
            exact w_X8_checkItem_86 w
        · replace w := w.2 c_19
          refine jw_gen (ls' := [some (vR 41 r0), some (vR 47 r1), none, some (vR 48 (jar h (jfr h 284 r1) (ixn x2))), none, none, none, none]) (st' := []) (And.intro (Or.inl rfl) (And.intro (Or.inl rfl) (And.intro (Or.inl rfl) (trivial)))) (trivial) ?_
          exact w_X8_checkItem_62 w
    · replace w := w.2 c_17
      refine jw_aload_n (pc' := 38) rfl rfl ?_
      refine jw_getR (pc' := 41) (F := 272) (t' := 198) rfl rfl rfl rfl rfl g_1 ?_
      refine jw_iload_n (pc' := 42) rfl rfl ?_
      obtain ⟨g_21, w⟩ := w
      refine jw_aald (pc' := 43) (t' := 64) rfl rfl rfl rfl g_15 g_21.ix g_21.2 ?_
      refine jw_goto (pc' := 86) rfl rfl ?_
      refine jw_gen (ls' := [some (vR 41 r0), some (vR 47 r1), none, some (vR 48 (jar h (jfr h 284 r1) (ixn x2))), none, none, none, none]) (st' := [vR 64 (jar h_12 (jfr h_12 272 r1) (ixn x2))]) (And.intro (Or.inl rfl) (And.intro (Or.inl rfl) (And.intro (Or.inl rfl) (trivial)))) (And.intro (Or.inl rfl) (trivial)) ?_
      exact w_X8_checkItem_86 w
def T_X8_checkItem (D : JD) (d : Nat) (Q : JO → JH → Prop) (r0 : Nat) (r1 : Nat) (x2 : Int32) (h : JH) : Prop := W_X8_checkItem_0 D d Q r0 r1 x2 h
theorem t_X8_checkItem {D : JD} {d : Nat} {Q : JO → JH → Prop} {r0 : Nat} {r1 : Nat} {x2 : Int32} {h : JH} (w : T_X8_checkItem D d Q r0 r1 x2 h) : cX8_checkItem D (d + 1) r0 r1 x2 h Q := by
  unfold T_X8_checkItem at w
  unfold cX8_checkItem
  exact w_X8_checkItem_0 w
def W_X8_add_15 (D : JD) (d : Nat) (Q : JO → JH → Prop) (r1 : Nat) (r2 : Nat) (r3 : Nat) (q0 : Nat) (s1 : Int32) (h : JH) : Prop :=
  q0 ≠ 0 ∧ (cX8_must D d q0 s1 (jcs D 302) h (pV D h (fun h_2 => r1 ≠ 0 ∧ ((jfr h_2 300 r1) ≠ 0 ∧ jin (jfi h_2 302 r1) (jln h_2 (jfr h_2 300 r1)) ∧ ∀ h_8 : JH, h_8 = war h_2 (jfr h_2 300 r1) (ixn (jfi h_2 302 r1)) r2 → ((jfr h_8 301 r1) ≠ 0 ∧ jin (jfi h_8 302 r1) (jln h_8 (jfr h_8 301 r1)) ∧ ∀ h_12 : JH, h_12 = war h_8 (jfr h_8 301 r1) (ixn (jfi h_8 302 r1)) r3 → (∀ h_14 : JH, h_14 = wfi h_12 302 r1 ((jfi h_12 302 r1) + (1 : Int32)) → (Q (.inl none) h_14))))) (jth Q)))
theorem w_X8_add_15 {D : JD} {d : Nat} {Q : JO → JH → Prop} {r1 : Nat} {r2 : Nat} {r3 : Nat} {q0 : Nat} {s1 : Int32} {h : JH} (w : W_X8_add_15 D d Q r1 r2 r3 q0 s1 h) : JW D (d + 1) mX8_add 15 [none, some (vR 47 r1), some (vR 48 r2), some (vR 64 r3)] [vI s1, vR 41 q0] h Q := by
  unfold W_X8_add_15 at w
  refine jw_ldcwS (pc' := 18) rfl rfl rfl rfl ?_
  obtain ⟨g_1, w⟩ := w
  refine jw_cV (st := []) (sa := [vR 41 q0, vI s1, vR 51 (jcs D 302)]) okX8_must rfl rfl rfl rfl rfl rfl (jstp_virtual (sa := [vI s1, vR 51 (jcs D 302)]) (st := []) (k := 0) rfl rfl sX8_must okX8_must g_1 (one41.k g_1) rfl rfl) w (fun h_2 _ _ w => ?_)
  refine jw_aload_n (pc' := 22) rfl rfl ?_
  obtain ⟨g_5, w⟩ := w
  refine jw_getR (pc' := 25) (F := 300) (t' := 212) rfl rfl rfl rfl rfl g_5 ?_
  refine jw_aload_n (pc' := 26) rfl rfl ?_
  refine jw_getI (pc' := 29) (F := 302) rfl rfl rfl rfl g_5 ?_
  refine jw_aload_n (pc' := 30) rfl rfl ?_
  obtain ⟨g_6, w⟩ := w
  obtain ⟨g_7, w⟩ := w
  refine jw_aast' (pc' := 31) rfl rfl rfl rfl rfl rfl g_6 g_7 (fun h_8 e_9 => ?_)
  replace w := w h_8 e_9
  refine jw_aload_n (pc' := 32) rfl rfl ?_
  refine jw_getR (pc' := 35) (F := 301) (t' := 213) rfl rfl rfl rfl rfl g_5 ?_
  refine jw_aload_n (pc' := 36) rfl rfl ?_
  refine jw_getI (pc' := 39) (F := 302) rfl rfl rfl rfl g_5 ?_
  refine jw_aload_n (pc' := 40) rfl rfl ?_
  obtain ⟨g_10, w⟩ := w
  obtain ⟨g_11, w⟩ := w
  refine jw_aast' (pc' := 41) rfl rfl rfl rfl rfl rfl g_10 g_11 (fun h_12 e_13 => ?_)
  replace w := w h_12 e_13
  refine jw_aload_n (pc' := 42) rfl rfl ?_
  refine jw_dup (pc' := 43) rfl rfl ?_
  refine jw_getI (pc' := 46) (F := 302) rfl rfl rfl rfl g_5 ?_
  refine jw_iconst (pc' := 47) (x := (1 : Int32)) rfl rfl ?_
  refine jw_iadd (pc' := 48) rfl ?_
  refine jw_putI' (pc' := 51) (F := 302) rfl rfl rfl (Or.inr rfl) (Or.inl rfl) rfl (rfl) (rfl) rfl g_5 (fun h_14 e_15 => ?_)
  replace w := w h_14 e_15
  exact jw_return rfl rfl w
def W_X8_add_0 (D : JD) (d : Nat) (Q : JO → JH → Prop) (r0 : Nat) (r1 : Nat) (r2 : Nat) (r3 : Nat) (h : JH) : Prop :=
  r1 ≠ 0 ∧ (((16 : Int32) ≤ (jfi h 302 r1) → W_X8_add_15 D d Q r1 r2 r3 r0 (0 : Int32) h) ∧ (¬ (16 : Int32) ≤ (jfi h 302 r1) → W_X8_add_15 D d Q r1 r2 r3 r0 (1 : Int32) h))
theorem w_X8_add_0 {D : JD} {d : Nat} {Q : JO → JH → Prop} {r0 : Nat} {r1 : Nat} {r2 : Nat} {r3 : Nat} {h : JH} (w : W_X8_add_0 D d Q r0 r1 r2 r3 h) : JW D (d + 1) mX8_add 0 [some (vR 41 r0), some (vR 47 r1), some (vR 48 r2), some (vR 64 r3)] [] h Q := by
  unfold W_X8_add_0 at w
  refine jw_aload_n (pc' := 1) rfl rfl ?_
  refine jw_aload_n (pc' := 2) rfl rfl ?_
  obtain ⟨g_1, w⟩ := w
  refine jw_getI (pc' := 5) (F := 302) rfl rfl rfl rfl g_1 ?_
  refine jw_bipush (pc' := 7) (x := (16 : Int32)) rfl rfl ?_
  refine jw_icmp_ge (tgt := 14) (pc' := 10) rfl rfl (fun c_2 => ?_) (fun c_2 => ?_)
  · replace w := w.1 c_2
    refine jw_iconst (pc' := 15) (x := (0 : Int32)) rfl rfl ?_
    refine jw_gen (ls' := [none, some (vR 47 r1), some (vR 48 r2), some (vR 64 r3)]) (st' := [vI (0 : Int32), vR 41 r0]) (And.intro (Or.inl rfl) (And.intro (Or.inl rfl) (And.intro (Or.inl rfl) (trivial)))) (And.intro (Or.inl rfl) (And.intro (Or.inl rfl) (trivial))) ?_
    exact w_X8_add_15 w
  · replace w := w.2 c_2
    refine jw_iconst (pc' := 11) (x := (1 : Int32)) rfl rfl ?_
    refine jw_goto (pc' := 15) rfl rfl ?_
    refine jw_gen (ls' := [none, some (vR 47 r1), some (vR 48 r2), some (vR 64 r3)]) (st' := [vI (1 : Int32), vR 41 r0]) (And.intro (Or.inl rfl) (And.intro (Or.inl rfl) (And.intro (Or.inl rfl) (trivial)))) (And.intro (Or.inl rfl) (And.intro (Or.inl rfl) (trivial))) ?_
    exact w_X8_add_15 w
def T_X8_add (D : JD) (d : Nat) (Q : JO → JH → Prop) (r0 : Nat) (r1 : Nat) (r2 : Nat) (r3 : Nat) (h : JH) : Prop := W_X8_add_0 D d Q r0 r1 r2 r3 h
theorem t_X8_add {D : JD} {d : Nat} {Q : JO → JH → Prop} {r0 : Nat} {r1 : Nat} {r2 : Nat} {r3 : Nat} {h : JH} (w : T_X8_add D d Q r0 r1 r2 r3 h) : cX8_add D (d + 1) r0 r1 r2 r3 h Q := by
  unfold T_X8_add at w
  unfold cX8_add
  exact w_X8_add_0 w
def W_X8_checkOrder_193 (D : JD) (d : Nat) (Q : JO → JH → Prop) (K193 : Nat → Nat → Nat → Int32 → Int32 → JH → Prop) (r0 : Nat) (r1 : Nat) (r3 : Nat) (x4 : Int32) (x5 : Int32) (h : JH) : Prop :=
  r1 ≠ 0 ∧ (((jfi h 302 r1) ≤ x5 → r0 ≠ 0 ∧ (cX8_must D d r0 x4 (jcs D 323) h (pV D h (fun h_4 => Q (.inl none) h_4) (jth Q)))) ∧ (¬ (jfi h 302 r1) ≤ x5 → (jfr h 300 r1) ≠ 0 ∧ jin x5 (jln h (jfr h 300 r1)) ∧ (cX8_equal D d r3 (jar h (jfr h 300 r1) (ixn x5)) h (pI D h (fun v_11 h_9 => K193 r0 r1 r3 (x4 ||| v_11) (x5 + (1 : Int32)) h_9) (jth Q)))))
theorem w_X8_checkOrder_193 {D : JD} {d : Nat} {Q : JO → JH → Prop} {K193 : Nat → Nat → Nat → Int32 → Int32 → JH → Prop} {r0 : Nat} {r1 : Nat} {r3 : Nat} {x4 : Int32} {x5 : Int32} {h : JH} (hK193 : ∀ (r0 : Nat) (r1 : Nat) (r3 : Nat) (x4 : Int32) (x5 : Int32) (h : JH), K193 r0 r1 r3 x4 x5 h → JW D (d + 1) mX8_checkOrder 193 [some (vR 41 r0), some (vR 47 r1), none, some (vR 48 r3), some (vI x4), some (vI x5)] [] h Q) (w : W_X8_checkOrder_193 D d Q K193 r0 r1 r3 x4 x5 h) : JW D (d + 1) mX8_checkOrder 193 [some (vR 41 r0), some (vR 47 r1), none, some (vR 48 r3), some (vI x4), some (vI x5)] [] h Q := by
  unfold W_X8_checkOrder_193 at w
  refine jw_iload (pc' := 195) rfl rfl ?_
  refine jw_aload_n (pc' := 196) rfl rfl ?_
  obtain ⟨g_1, w⟩ := w
  refine jw_getI (pc' := 199) (F := 302) rfl rfl rfl rfl g_1 ?_
  refine jw_icmp_ge (tgt := 224) (pc' := 202) rfl rfl (fun c_2 => ?_) (fun c_2 => ?_)
  · replace w := w.1 c_2
    refine jw_aload_n (pc' := 225) rfl rfl ?_
    refine jw_iload (pc' := 227) rfl rfl ?_
    refine jw_ldcwS (pc' := 230) rfl rfl rfl rfl ?_
    obtain ⟨g_3, w⟩ := w
    refine jw_cV (st := []) (sa := [vR 41 r0, vI x4, vR 51 (jcs D 323)]) okX8_must rfl rfl rfl rfl rfl rfl (jstp_virtual (sa := [vI x4, vR 51 (jcs D 323)]) (st := []) (k := 0) rfl rfl sX8_must okX8_must g_3 (one41.k g_3) rfl rfl) w (fun h_4 _ _ w => ?_)
    exact jw_return rfl rfl w
  · replace w := w.2 c_2
    refine jw_iload (pc' := 204) rfl rfl ?_
    refine jw_aload_n (pc' := 205) rfl rfl ?_
    refine jw_aload_n (pc' := 206) rfl rfl ?_
    refine jw_getR (pc' := 209) (F := 300) (t' := 212) rfl rfl rfl rfl rfl g_1 ?_
    refine jw_iload (pc' := 211) rfl rfl ?_
    obtain ⟨g_7, w⟩ := w
    obtain ⟨g_8, w⟩ := w
    refine jw_aald (pc' := 212) (t' := 48) rfl rfl rfl rfl g_7 g_8.ix g_8.2 ?_
    refine jw_cI (st := [vI x4]) (sa := [vR 48 r3, vR 48 (jar h (jfr h 300 r1) (ixn x5))]) okX8_equal rfl rfl rfl rfl rfl rfl (jstp_static (sa := [vR 48 r3, vR 48 (jar h (jfr h 300 r1) (ixn x5))]) (st := [vI x4]) rfl rfl sX8_equal okX8_equal rfl rfl) w (fun v_11 h_9 _ _ w => ?_)
    refine jw_ior (pc' := 216) rfl ?_
    refine jw_istore (pc' := 218) (ls' := [some (vR 41 r0), some (vR 47 r1), none, some (vR 48 r3), some (vI (x4 ||| v_11)), some (vI x5)]) rfl (by decide) rfl ?_
    refine jw_iinc (pc' := 221) (y := x5 + (1 : Int32)) (ls' := [some (vR 41 r0), some (vR 47 r1), none, some (vR 48 r3), some (vI (x4 ||| v_11)), some (vI (x5 + (1 : Int32)))]) rfl (by decide) rfl rfl rfl ?_
    refine jw_goto (pc' := 193) rfl rfl ?_
    exact hK193 _ _ _ _ _ _ w
def L_X8_checkOrder_193 (D : JD) (d : Nat) (Q : JO → JH → Prop) : Nat → Nat → Nat → Nat → Int32 → Int32 → JH → Prop
  | 0 => fun _ _ _ _ _ _ => False
  | n + 1 => fun r0 r1 r3 x4 x5 h => W_X8_checkOrder_193 D d Q (L_X8_checkOrder_193 D d Q n) r0 r1 r3 x4 x5 h
theorem l_X8_checkOrder_193 {D : JD} {d : Nat} {Q : JO → JH → Prop} : ∀ (n : Nat) (r0 : Nat) (r1 : Nat) (r3 : Nat) (x4 : Int32) (x5 : Int32) (h : JH), L_X8_checkOrder_193 D d Q n r0 r1 r3 x4 x5 h → JW D (d + 1) mX8_checkOrder 193 [some (vR 41 r0), some (vR 47 r1), none, some (vR 48 r3), some (vI x4), some (vI x5)] [] h Q := by
  intro n
  induction n with
  | zero => intro _ _ _ _ _ _ w; exact w.elim
  | succ n ih => intro _ _ _ _ _ h w; exact w_X8_checkOrder_193 ih w
def W_X8_checkOrder_167 (D : JD) (d : Nat) (Q : JO → JH → Prop) (r0 : Nat) (r1 : Nat) (r3 : Nat) (h : JH) : Prop :=
  r0 ≠ 0 ∧ (cX8_check_2 D d r0 r3 h (pI D h (fun v_4 h_2 => cX8_apart D d r0 r1 r3 h_2 (pV D h_2 (fun h_5 => r1 ≠ 0 ∧ ((¬ (jfi h_5 283 r1) = 0 → ∃ n, L_X8_checkOrder_193 D d Q n r0 r1 r3 (0 : Int32) (0 : Int32) h_5) ∧ ((jfi h_5 283 r1) = 0 → Q (.inl none) h_5))) (jth Q))) (jth Q)))
theorem w_X8_checkOrder_167 {D : JD} {d : Nat} {Q : JO → JH → Prop} {r0 : Nat} {r1 : Nat} {r3 : Nat} {h : JH} (w : W_X8_checkOrder_167 D d Q r0 r1 r3 h) : JW D (d + 1) mX8_checkOrder 167 [some (vR 41 r0), some (vR 47 r1), none, some (vR 48 r3), none, none] [] h Q := by
  unfold W_X8_checkOrder_167 at w
  refine jw_aload_n (pc' := 168) rfl rfl ?_
  refine jw_aload_n (pc' := 169) rfl rfl ?_
  obtain ⟨g_1, w⟩ := w
  refine jw_cI (st := []) (sa := [vR 41 r0, vR 48 r3]) okX8_check_2 rfl rfl rfl rfl rfl rfl (jstp_virtual (sa := [vR 48 r3]) (st := []) (k := 0) rfl rfl sX8_check_2 okX8_check_2 g_1 (one41.k g_1) rfl rfl) w (fun v_4 h_2 _ _ w => ?_)
  refine jw_pop (pc' := 173) rfl rfl ?_
  refine jw_aload_n (pc' := 174) rfl rfl ?_
  refine jw_aload_n (pc' := 175) rfl rfl ?_
  refine jw_aload_n (pc' := 176) rfl rfl ?_
  refine jw_cV (st := []) (sa := [vR 41 r0, vR 47 r1, vR 48 r3]) okX8_apart rfl rfl rfl rfl rfl rfl (jstp_virtual (sa := [vR 47 r1, vR 48 r3]) (st := []) (k := 0) rfl rfl sX8_apart okX8_apart g_1 (one41.k g_1) rfl rfl) w (fun h_5 _ _ w => ?_)
  refine jw_aload_n (pc' := 180) rfl rfl ?_
  obtain ⟨g_8, w⟩ := w
  refine jw_getI (pc' := 183) (F := 283) rfl rfl rfl rfl g_8 ?_
  refine jw_if_ne (tgt := 187) (pc' := 186) rfl rfl (fun c_9 => ?_) (fun c_9 => ?_)
  · replace w := w.1 c_9
    refine jw_iconst (pc' := 188) (x := (0 : Int32)) rfl rfl ?_
    refine jw_istore (pc' := 190) (ls' := [some (vR 41 r0), some (vR 47 r1), none, some (vR 48 r3), some (vI (0 : Int32)), none]) rfl (by decide) rfl ?_
    refine jw_iconst (pc' := 191) (x := (0 : Int32)) rfl rfl ?_
    refine jw_istore (pc' := 193) (ls' := [some (vR 41 r0), some (vR 47 r1), none, some (vR 48 r3), some (vI (0 : Int32)), some (vI (0 : Int32))]) rfl (by decide) rfl ?_
    obtain ⟨n, w⟩ := w
    exact l_X8_checkOrder_193 n _ _ _ _ _ _ w
  · replace w := w.2 c_9
    exact jw_return rfl rfl w
def W_X8_checkOrder_161 (D : JD) (d : Nat) (Q : JO → JH → Prop) (K93 : Nat → Nat → Int32 → Nat → Int32 → JH → Prop) (r0 : Nat) (r1 : Nat) (x2 : Int32) (r3 : Nat) (x4 : Int32) (h : JH) : Prop :=
  K93 r0 r1 x2 r3 (x4 + (1 : Int32)) h
theorem w_X8_checkOrder_161 {D : JD} {d : Nat} {Q : JO → JH → Prop} {K93 : Nat → Nat → Int32 → Nat → Int32 → JH → Prop} {r0 : Nat} {r1 : Nat} {x2 : Int32} {r3 : Nat} {x4 : Int32} {h : JH} (hK93 : ∀ (r0 : Nat) (r1 : Nat) (x2 : Int32) (r3 : Nat) (x4 : Int32) (h : JH), K93 r0 r1 x2 r3 x4 h → JW D (d + 1) mX8_checkOrder 93 [some (vR 41 r0), some (vR 47 r1), some (vI x2), some (vR 48 r3), some (vI x4), none] [] h Q) (w : W_X8_checkOrder_161 D d Q K93 r0 r1 x2 r3 x4 h) : JW D (d + 1) mX8_checkOrder 161 [some (vR 41 r0), some (vR 47 r1), some (vI x2), some (vR 48 r3), some (vI x4), none] [] h Q := by
  unfold W_X8_checkOrder_161 at w
  refine jw_iinc (pc' := 164) (y := x4 + (1 : Int32)) (ls' := [some (vR 41 r0), some (vR 47 r1), some (vI x2), some (vR 48 r3), some (vI (x4 + (1 : Int32))), none]) rfl (by decide) rfl rfl rfl ?_
  refine jw_goto (pc' := 93) rfl rfl ?_
  exact hK93 _ _ _ _ _ _ w
def W_X8_checkOrder_93 (D : JD) (d : Nat) (Q : JO → JH → Prop) (K93 : Nat → Nat → Int32 → Nat → Int32 → JH → Prop) (r0 : Nat) (r1 : Nat) (x2 : Int32) (r3 : Nat) (x4 : Int32) (h : JH) : Prop :=
  r1 ≠ 0 ∧ (((jfi h 285 r1) ≤ x4 → W_X8_checkOrder_167 D d Q r0 r1 r3 h) ∧ (¬ (jfi h 285 r1) ≤ x4 → r3 ≠ 0 ∧ ((¬ (jfi h 305 r3) = (2 : Int32) → W_X8_checkOrder_167 D d Q r0 r1 r3 h) ∧ ((jfi h 305 r3) = (2 : Int32) → ((jfr h 308 r3) ≠ 0 → W_X8_checkOrder_167 D d Q r0 r1 r3 h) ∧ ((jfr h 308 r3) = 0 → (jfr h 272 r1) ≠ 0 ∧ jin x4 (jln h (jfr h 272 r1)) ∧ (((jar h (jfr h 272 r1) (ixn x4)) = 0 → W_X8_checkOrder_161 D d Q K93 r0 r1 x2 r3 x4 h) ∧ ((jar h (jfr h 272 r1) (ixn x4)) ≠ 0 → jin x4 (jln h (jfr h 272 r1)) ∧ (cJ5_equals D d (jar h (jfr h 272 r1) (ixn x4)) (jfr h 307 r3) h (pI D h (fun v_12 h_10 => (¬ v_12 = 0 → r0 ≠ 0 ∧ (cX8_firstColumn D d r0 r1 x4 h_10 (pI D h_10 (fun v_17 h_15 => (jfr h_10 304 r1) ≠ 0 ∧ jin x2 (jln h_15 (jfr h_10 304 r1)) ∧ ∀ h_20 : JH, h_20 = wai h_15 (jfr h_10 304 r1) (ixn x2) v_17 → (Q (.inl none) h_20)) (jth Q)))) ∧ (v_12 = 0 → W_X8_checkOrder_161 D d Q K93 r0 r1 x2 r3 x4 h_10)) (jth Q))))))))))
theorem w_X8_checkOrder_93 {D : JD} {d : Nat} {Q : JO → JH → Prop} {K93 : Nat → Nat → Int32 → Nat → Int32 → JH → Prop} {r0 : Nat} {r1 : Nat} {x2 : Int32} {r3 : Nat} {x4 : Int32} {h : JH} (hK93 : ∀ (r0 : Nat) (r1 : Nat) (x2 : Int32) (r3 : Nat) (x4 : Int32) (h : JH), K93 r0 r1 x2 r3 x4 h → JW D (d + 1) mX8_checkOrder 93 [some (vR 41 r0), some (vR 47 r1), some (vI x2), some (vR 48 r3), some (vI x4), none] [] h Q) (w : W_X8_checkOrder_93 D d Q K93 r0 r1 x2 r3 x4 h) : JW D (d + 1) mX8_checkOrder 93 [some (vR 41 r0), some (vR 47 r1), some (vI x2), some (vR 48 r3), some (vI x4), none] [] h Q := by
  unfold W_X8_checkOrder_93 at w
  refine jw_iload (pc' := 95) rfl rfl ?_
  refine jw_aload_n (pc' := 96) rfl rfl ?_
  obtain ⟨g_1, w⟩ := w
  refine jw_getI (pc' := 99) (F := 285) rfl rfl rfl rfl g_1 ?_
  refine jw_icmp_ge (tgt := 167) (pc' := 102) rfl rfl (fun c_2 => ?_) (fun c_2 => ?_)
  · replace w := w.1 c_2
    refine jw_gen (ls' := [some (vR 41 r0), some (vR 47 r1), none, some (vR 48 r3), none, none]) (st' := []) (And.intro (Or.inl rfl) (And.intro (Or.inl rfl) (And.intro (Or.inl rfl) (trivial)))) (trivial) ?_
    exact w_X8_checkOrder_167 w
  · replace w := w.2 c_2
    refine jw_aload_n (pc' := 103) rfl rfl ?_
    obtain ⟨g_3, w⟩ := w
    refine jw_getI (pc' := 106) (F := 305) rfl rfl rfl rfl g_3 ?_
    refine jw_iconst (pc' := 107) (x := (2 : Int32)) rfl rfl ?_
    refine jw_icmp_ne (tgt := 167) (pc' := 110) rfl rfl (fun c_4 => ?_) (fun c_4 => ?_)
    · replace w := w.1 c_4
      refine jw_gen (ls' := [some (vR 41 r0), some (vR 47 r1), none, some (vR 48 r3), none, none]) (st' := []) (And.intro (Or.inl rfl) (And.intro (Or.inl rfl) (And.intro (Or.inl rfl) (trivial)))) (trivial) ?_
      exact w_X8_checkOrder_167 w
    · replace w := w.2 c_4
      refine jw_aload_n (pc' := 111) rfl rfl ?_
      refine jw_getR (pc' := 114) (F := 308) (t' := 64) rfl rfl rfl rfl rfl g_3 ?_
      refine jw_ifnonnull (tgt := 167) (pc' := 117) rfl rfl (fun c_5 => ?_) (fun c_5 => ?_)
      · replace w := w.1 c_5
        refine jw_gen (ls' := [some (vR 41 r0), some (vR 47 r1), none, some (vR 48 r3), none, none]) (st' := []) (And.intro (Or.inl rfl) (And.intro (Or.inl rfl) (And.intro (Or.inl rfl) (trivial)))) (trivial) ?_
        exact w_X8_checkOrder_167 w
      · replace w := w.2 c_5
        refine jw_aload_n (pc' := 118) rfl rfl ?_
        refine jw_getR (pc' := 121) (F := 272) (t' := 198) rfl rfl rfl rfl rfl g_1 ?_
        refine jw_iload (pc' := 123) rfl rfl ?_
        obtain ⟨g_6, w⟩ := w
        obtain ⟨g_7, w⟩ := w
        refine jw_aald (pc' := 124) (t' := 64) rfl rfl rfl rfl g_6 g_7.ix g_7.2 ?_
        refine jw_ifnull (tgt := 161) (pc' := 127) rfl rfl (fun c_8 => ?_) (fun c_8 => ?_)
        · replace w := w.1 c_8
          exact w_X8_checkOrder_161 hK93 w
        · replace w := w.2 c_8
          refine jw_aload_n (pc' := 128) rfl rfl ?_
          refine jw_getR (pc' := 131) (F := 272) (t' := 198) rfl rfl rfl rfl rfl g_1 ?_
          refine jw_iload (pc' := 133) rfl rfl ?_
          obtain ⟨g_9, w⟩ := w
          refine jw_aald (pc' := 134) (t' := 64) rfl rfl rfl rfl g_6 g_9.ix g_9.2 ?_
          refine jw_aload_n (pc' := 135) rfl rfl ?_
          refine jw_getR (pc' := 138) (F := 307) (t' := 64) rfl rfl rfl rfl rfl g_3 ?_
          refine jw_cI (st := []) (sa := [vR 64 (jar h (jfr h 272 r1) (ixn x4)), vR 64 (jfr h 307 r3)]) okJ5_equals rfl rfl rfl rfl rfl rfl (jstp_virtual (sa := [vR 64 (jfr h 307 r3)]) (st := []) (k := 0) rfl rfl sJ5_equals okJ5_equals c_8 (one64.k c_8) rfl rfl) w (fun v_12 h_10 _ _ w => ?_)
          refine jw_if_ne (tgt := 147) (pc' := 144) rfl rfl (fun c_13 => ?_) (fun c_13 => ?_)
          · replace w := w.1 c_13
            refine jw_aload_n (pc' := 148) rfl rfl ?_
            refine jw_getR (pc' := 151) (F := 304) (t' := 214) rfl rfl rfl rfl rfl g_1 ?_
            refine jw_iload_n (pc' := 152) rfl rfl ?_
            refine jw_aload_n (pc' := 153) rfl rfl ?_
            refine jw_aload_n (pc' := 154) rfl rfl ?_
            refine jw_iload (pc' := 156) rfl rfl ?_
            obtain ⟨g_14, w⟩ := w
            refine jw_cI (st := [vI x2, vR 214 (jfr h_10 304 r1)]) (sa := [vR 41 r0, vR 47 r1, vI x4]) okX8_firstColumn rfl rfl rfl rfl rfl rfl (jstp_virtual (sa := [vR 47 r1, vI x4]) (st := [vI x2, vR 214 (jfr h_10 304 r1)]) (k := 0) rfl rfl sX8_firstColumn okX8_firstColumn g_14 (one41.k g_14) rfl rfl) w (fun v_17 h_15 _ _ w => ?_)
            obtain ⟨g_18, w⟩ := w
            obtain ⟨g_19, w⟩ := w
            refine jw_iast' (pc' := 160) rfl rfl rfl rfl rfl g_18 g_19 (fun h_20 e_21 => ?_)
            replace w := w h_20 e_21
            exact jw_return rfl rfl w
          · replace w := w.2 c_13
            refine jw_goto (pc' := 161) rfl rfl ?_
            exact w_X8_checkOrder_161 hK93 w
def L_X8_checkOrder_93 (D : JD) (d : Nat) (Q : JO → JH → Prop) : Nat → Nat → Nat → Int32 → Nat → Int32 → JH → Prop
  | 0 => fun _ _ _ _ _ _ => False
  | n + 1 => fun r0 r1 x2 r3 x4 h => W_X8_checkOrder_93 D d Q (L_X8_checkOrder_93 D d Q n) r0 r1 x2 r3 x4 h
theorem l_X8_checkOrder_93 {D : JD} {d : Nat} {Q : JO → JH → Prop} : ∀ (n : Nat) (r0 : Nat) (r1 : Nat) (x2 : Int32) (r3 : Nat) (x4 : Int32) (h : JH), L_X8_checkOrder_93 D d Q n r0 r1 x2 r3 x4 h → JW D (d + 1) mX8_checkOrder 93 [some (vR 41 r0), some (vR 47 r1), some (vI x2), some (vR 48 r3), some (vI x4), none] [] h Q := by
  intro n
  induction n with
  | zero => intro _ _ _ _ _ _ w; exact w.elim
  | succ n ih => intro _ _ _ _ _ h w; exact w_X8_checkOrder_93 ih w
def W_X8_checkOrder_90 (D : JD) (d : Nat) (Q : JO → JH → Prop) (r0 : Nat) (r1 : Nat) (x2 : Int32) (r3 : Nat) (h : JH) : Prop :=
  ∃ n, L_X8_checkOrder_93 D d Q n r0 r1 x2 r3 (0 : Int32) h
theorem w_X8_checkOrder_90 {D : JD} {d : Nat} {Q : JO → JH → Prop} {r0 : Nat} {r1 : Nat} {x2 : Int32} {r3 : Nat} {h : JH} (w : W_X8_checkOrder_90 D d Q r0 r1 x2 r3 h) : JW D (d + 1) mX8_checkOrder 90 [some (vR 41 r0), some (vR 47 r1), some (vI x2), some (vR 48 r3), none, none] [] h Q := by
  unfold W_X8_checkOrder_90 at w
  refine jw_iconst (pc' := 91) (x := (0 : Int32)) rfl rfl ?_
  refine jw_istore (pc' := 93) (ls' := [some (vR 41 r0), some (vR 47 r1), some (vI x2), some (vR 48 r3), some (vI (0 : Int32)), none]) rfl (by decide) rfl ?_
  obtain ⟨n, w⟩ := w
  exact l_X8_checkOrder_93 n _ _ _ _ _ _ w
def W_X8_checkOrder_67 (D : JD) (d : Nat) (Q : JO → JH → Prop) (r1 : Nat) (x2 : Int32) (r3 : Nat) (q0 : Nat) (s1 : Int32) (h : JH) : Prop :=
  q0 ≠ 0 ∧ (cX8_must D d q0 s1 (jcs D 323) h (pV D h (fun h_2 => r1 ≠ 0 ∧ (r3 ≠ 0 ∧ ((jfr h_2 309 r3) ≠ 0 ∧ ((jfr h_2 304 r1) ≠ 0 ∧ jin x2 (jln h_2 (jfr h_2 304 r1)) ∧ ∀ h_10 : JH, h_10 = wai h_2 (jfr h_2 304 r1) (ixn x2) ((Int64.toInt32 (jfl h_2 267 (jfr h_2 309 r3))) - (1 : Int32)) → (Q (.inl none) h_10))))) (jth Q)))
theorem w_X8_checkOrder_67 {D : JD} {d : Nat} {Q : JO → JH → Prop} {r1 : Nat} {x2 : Int32} {r3 : Nat} {q0 : Nat} {s1 : Int32} {h : JH} (w : W_X8_checkOrder_67 D d Q r1 x2 r3 q0 s1 h) : JW D (d + 1) mX8_checkOrder 67 [none, some (vR 47 r1), some (vI x2), some (vR 48 r3), none, none] [vI s1, vR 41 q0] h Q := by
  unfold W_X8_checkOrder_67 at w
  refine jw_ldcwS (pc' := 70) rfl rfl rfl rfl ?_
  obtain ⟨g_1, w⟩ := w
  refine jw_cV (st := []) (sa := [vR 41 q0, vI s1, vR 51 (jcs D 323)]) okX8_must rfl rfl rfl rfl rfl rfl (jstp_virtual (sa := [vI s1, vR 51 (jcs D 323)]) (st := []) (k := 0) rfl rfl sX8_must okX8_must g_1 (one41.k g_1) rfl rfl) w (fun h_2 _ _ w => ?_)
  refine jw_aload_n (pc' := 74) rfl rfl ?_
  obtain ⟨g_5, w⟩ := w
  refine jw_getR (pc' := 77) (F := 304) (t' := 214) rfl rfl rfl rfl rfl g_5 ?_
  refine jw_iload_n (pc' := 78) rfl rfl ?_
  refine jw_aload_n (pc' := 79) rfl rfl ?_
  obtain ⟨g_6, w⟩ := w
  refine jw_getR (pc' := 82) (F := 309) (t' := 105) rfl rfl rfl rfl rfl g_6 ?_
  obtain ⟨g_7, w⟩ := w
  refine jw_getL (pc' := 85) (F := 267) rfl rfl rfl rfl g_7 ?_
  refine jw_l2i (pc' := 86) rfl ?_
  refine jw_iconst (pc' := 87) (x := (1 : Int32)) rfl rfl ?_
  refine jw_isub (pc' := 88) rfl ?_
  obtain ⟨g_8, w⟩ := w
  obtain ⟨g_9, w⟩ := w
  refine jw_iast' (pc' := 89) rfl rfl rfl rfl rfl g_8 g_9 (fun h_10 e_11 => ?_)
  replace w := w h_10 e_11
  exact jw_return rfl rfl w
def W_X8_checkOrder_66 (D : JD) (d : Nat) (Q : JO → JH → Prop) (r1 : Nat) (x2 : Int32) (r3 : Nat) (q0 : Nat) (h : JH) : Prop :=
  W_X8_checkOrder_67 D d Q r1 x2 r3 q0 (0 : Int32) h
theorem w_X8_checkOrder_66 {D : JD} {d : Nat} {Q : JO → JH → Prop} {r1 : Nat} {x2 : Int32} {r3 : Nat} {q0 : Nat} {h : JH} (w : W_X8_checkOrder_66 D d Q r1 x2 r3 q0 h) : JW D (d + 1) mX8_checkOrder 66 [none, some (vR 47 r1), some (vI x2), some (vR 48 r3), none, none] [vR 41 q0] h Q := by
  unfold W_X8_checkOrder_66 at w
  refine jw_iconst (pc' := 67) (x := (0 : Int32)) rfl rfl ?_
  exact w_X8_checkOrder_67 w
def W_X8_checkOrder_0 (D : JD) (d : Nat) (Q : JO → JH → Prop) (r0 : Nat) (r1 : Nat) (x2 : Int32) (h : JH) : Prop :=
  r1 ≠ 0 ∧ ((jfr h 294 r1) ≠ 0 ∧ jin x2 (jln h (jfr h 294 r1)) ∧ ((jfr h 304 r1) ≠ 0 ∧ jin x2 (jln h (jfr h 304 r1)) ∧ ∀ h_6 : JH, h_6 = wai h (jfr h 304 r1) (ixn x2) (-1 : Int32) → ((jar h (jfr h 294 r1) (ixn x2)) ≠ 0 ∧ ((¬ (jfi h_6 305 (jar h (jfr h 294 r1) (ixn x2))) = 0 → W_X8_checkOrder_90 D d Q r0 r1 x2 (jar h (jfr h 294 r1) (ixn x2)) h_6) ∧ ((jfi h_6 305 (jar h (jfr h 294 r1) (ixn x2))) = 0 → (jfr h_6 309 (jar h (jfr h 294 r1) (ixn x2))) ≠ 0 ∧ ((¬ (jfi h_6 266 (jfr h_6 309 (jar h (jfr h 294 r1) (ixn x2)))) = (20 : Int32) → W_X8_checkOrder_90 D d Q r0 r1 x2 (jar h (jfr h 294 r1) (ixn x2)) h_6) ∧ ((jfi h_6 266 (jfr h_6 309 (jar h (jfr h 294 r1) (ixn x2)))) = (20 : Int32) → ((lg_cmp (jfl h_6 267 (jfr h_6 309 (jar h (jfr h 294 r1) (ixn x2)))) (1 : Int64)) < 0 → W_X8_checkOrder_66 D d Q r1 x2 (jar h (jfr h 294 r1) (ixn x2)) r0 h_6) ∧ (¬ (lg_cmp (jfl h_6 267 (jfr h_6 309 (jar h (jfr h 294 r1) (ixn x2)))) (1 : Int64)) < 0 → (0 < (lg_cmp (jfl h_6 267 (jfr h_6 309 (jar h (jfr h 294 r1) (ixn x2)))) (Int32.toInt64 (jfi h_6 302 r1))) → W_X8_checkOrder_66 D d Q r1 x2 (jar h (jfr h 294 r1) (ixn x2)) r0 h_6) ∧ (¬ 0 < (lg_cmp (jfl h_6 267 (jfr h_6 309 (jar h (jfr h 294 r1) (ixn x2)))) (Int32.toInt64 (jfi h_6 302 r1))) → W_X8_checkOrder_67 D d Q r1 x2 (jar h (jfr h 294 r1) (ixn x2)) r0 (1 : Int32) h_6)))))))))
theorem w_X8_checkOrder_0 {D : JD} {d : Nat} {Q : JO → JH → Prop} {r0 : Nat} {r1 : Nat} {x2 : Int32} {h : JH} (w : W_X8_checkOrder_0 D d Q r0 r1 x2 h) : JW D (d + 1) mX8_checkOrder 0 [some (vR 41 r0), some (vR 47 r1), some (vI x2), none, none, none] [] h Q := by
  unfold W_X8_checkOrder_0 at w
  refine jw_aload_n (pc' := 1) rfl rfl ?_
  obtain ⟨g_1, w⟩ := w
  refine jw_getR (pc' := 4) (F := 294) (t' := 210) rfl rfl rfl rfl rfl g_1 ?_
  refine jw_iload_n (pc' := 5) rfl rfl ?_
  obtain ⟨g_2, w⟩ := w
  obtain ⟨g_3, w⟩ := w
  refine jw_aald (pc' := 6) (t' := 48) rfl rfl rfl rfl g_2 g_3.ix g_3.2 ?_
  refine jw_astore_n (pc' := 7) (ls' := [some (vR 41 r0), some (vR 47 r1), some (vI x2), some (vR 48 (jar h (jfr h 294 r1) (ixn x2))), none, none]) rfl (by decide) rfl ?_
  refine jw_aload_n (pc' := 8) rfl rfl ?_
  refine jw_getR (pc' := 11) (F := 304) (t' := 214) rfl rfl rfl rfl rfl g_1 ?_
  refine jw_iload_n (pc' := 12) rfl rfl ?_
  refine jw_iconst (pc' := 13) (x := (-1 : Int32)) rfl rfl ?_
  obtain ⟨g_4, w⟩ := w
  obtain ⟨g_5, w⟩ := w
  refine jw_iast' (pc' := 14) rfl rfl rfl rfl rfl g_4 g_5 (fun h_6 e_7 => ?_)
  replace w := w h_6 e_7
  refine jw_aload_n (pc' := 15) rfl rfl ?_
  obtain ⟨g_8, w⟩ := w
  refine jw_getI (pc' := 18) (F := 305) rfl rfl rfl rfl g_8 ?_
  refine jw_if_ne (tgt := 90) (pc' := 21) rfl rfl (fun c_9 => ?_) (fun c_9 => ?_)
  · replace w := w.1 c_9
    exact w_X8_checkOrder_90 w
  · replace w := w.2 c_9
    refine jw_aload_n (pc' := 22) rfl rfl ?_
    refine jw_getR (pc' := 25) (F := 309) (t' := 105) rfl rfl rfl rfl rfl g_8 ?_
    obtain ⟨g_10, w⟩ := w
    refine jw_getI (pc' := 28) (F := 266) rfl rfl rfl rfl g_10 ?_
    refine jw_bipush (pc' := 30) (x := (20 : Int32)) rfl rfl ?_
    refine jw_icmp_ne (tgt := 90) (pc' := 33) rfl rfl (fun c_11 => ?_) (fun c_11 => ?_)
    · replace w := w.1 c_11
      exact w_X8_checkOrder_90 w
    · replace w := w.2 c_11
      refine jw_aload_n (pc' := 34) rfl rfl ?_
      refine jw_aload_n (pc' := 35) rfl rfl ?_
      refine jw_getR (pc' := 38) (F := 309) (t' := 105) rfl rfl rfl rfl rfl g_8 ?_
      refine jw_getL (pc' := 41) (F := 267) rfl rfl rfl rfl g_10 ?_
      refine jw_lconst (pc' := 42) (x := (1 : Int64)) rfl rfl ?_
      refine jw_lcmp (pc' := 43) rfl ?_
      refine jw_if_lt (tgt := 66) (pc' := 46) rfl rfl (fun c_12 => ?_) (fun c_12 => ?_)
      · replace w := w.1 c_12
        refine jw_gen (ls' := [none, some (vR 47 r1), some (vI x2), some (vR 48 (jar h (jfr h 294 r1) (ixn x2))), none, none]) (st' := [vR 41 r0]) (And.intro (Or.inl rfl) (And.intro (Or.inl rfl) (And.intro (Or.inl rfl) (trivial)))) (And.intro (Or.inl rfl) (trivial)) ?_
        exact w_X8_checkOrder_66 w
      · replace w := w.2 c_12
        refine jw_aload_n (pc' := 47) rfl rfl ?_
        refine jw_getR (pc' := 50) (F := 309) (t' := 105) rfl rfl rfl rfl rfl g_8 ?_
        refine jw_getL (pc' := 53) (F := 267) rfl rfl rfl rfl g_10 ?_
        refine jw_aload_n (pc' := 54) rfl rfl ?_
        refine jw_getI (pc' := 57) (F := 302) rfl rfl rfl rfl g_1 ?_
        refine jw_i2l (pc' := 58) rfl ?_
        refine jw_lcmp (pc' := 59) rfl ?_
        refine jw_if_gt (tgt := 66) (pc' := 62) rfl rfl (fun c_13 => ?_) (fun c_13 => ?_)
        · replace w := w.1 c_13
          refine jw_gen (ls' := [none, some (vR 47 r1), some (vI x2), some (vR 48 (jar h (jfr h 294 r1) (ixn x2))), none, none]) (st' := [vR 41 r0]) (And.intro (Or.inl rfl) (And.intro (Or.inl rfl) (And.intro (Or.inl rfl) (trivial)))) (And.intro (Or.inl rfl) (trivial)) ?_
          exact w_X8_checkOrder_66 w
        · replace w := w.2 c_13
          refine jw_iconst (pc' := 63) (x := (1 : Int32)) rfl rfl ?_
          refine jw_goto (pc' := 67) rfl rfl ?_
          refine jw_gen (ls' := [none, some (vR 47 r1), some (vI x2), some (vR 48 (jar h (jfr h 294 r1) (ixn x2))), none, none]) (st' := [vI (1 : Int32), vR 41 r0]) (And.intro (Or.inl rfl) (And.intro (Or.inl rfl) (And.intro (Or.inl rfl) (trivial)))) (And.intro (Or.inl rfl) (And.intro (Or.inl rfl) (trivial))) ?_
          exact w_X8_checkOrder_67 w
def T_X8_checkOrder (D : JD) (d : Nat) (Q : JO → JH → Prop) (r0 : Nat) (r1 : Nat) (x2 : Int32) (h : JH) : Prop := W_X8_checkOrder_0 D d Q r0 r1 x2 h
theorem t_X8_checkOrder {D : JD} {d : Nat} {Q : JO → JH → Prop} {r0 : Nat} {r1 : Nat} {x2 : Int32} {h : JH} (w : T_X8_checkOrder D d Q r0 r1 x2 h) : cX8_checkOrder D (d + 1) r0 r1 x2 h Q := by
  unfold T_X8_checkOrder at w
  unfold cX8_checkOrder
  exact w_X8_checkOrder_0 w
def W_X8_firstColumn_2 (D : JD) (d : Nat) (Q : JO → JH → Prop) (K2 : Nat → Int32 → Int32 → JH → Prop) (r1 : Nat) (x2 : Int32) (x3 : Int32) (h : JH) : Prop :=
  r1 ≠ 0 ∧ (((jfi h 302 r1) ≤ x3 → Q (.inl (some (vI (-1 : Int32)))) h) ∧ (¬ (jfi h 302 r1) ≤ x3 → (jfr h 300 r1) ≠ 0 ∧ jin x3 (jln h (jfr h 300 r1)) ∧ ((jfr h 284 r1) ≠ 0 ∧ jin x2 (jln h (jfr h 284 r1)) ∧ ((¬ (jar h (jfr h 300 r1) (ixn x3)) = (jar h (jfr h 284 r1) (ixn x2)) → K2 r1 x2 (x3 + (1 : Int32)) h) ∧ ((jar h (jfr h 300 r1) (ixn x3)) = (jar h (jfr h 284 r1) (ixn x2)) → Q (.inl (some (vI x3))) h)))))
theorem w_X8_firstColumn_2 {D : JD} {d : Nat} {Q : JO → JH → Prop} {K2 : Nat → Int32 → Int32 → JH → Prop} {r1 : Nat} {x2 : Int32} {x3 : Int32} {h : JH} (hK2 : ∀ (r1 : Nat) (x2 : Int32) (x3 : Int32) (h : JH), K2 r1 x2 x3 h → JW D (d + 1) mX8_firstColumn 2 [none, some (vR 47 r1), some (vI x2), some (vI x3)] [] h Q) (w : W_X8_firstColumn_2 D d Q K2 r1 x2 x3 h) : JW D (d + 1) mX8_firstColumn 2 [none, some (vR 47 r1), some (vI x2), some (vI x3)] [] h Q := by
  unfold W_X8_firstColumn_2 at w
  refine jw_iload_n (pc' := 3) rfl rfl ?_
  refine jw_aload_n (pc' := 4) rfl rfl ?_
  obtain ⟨g_1, w⟩ := w
  refine jw_getI (pc' := 7) (F := 302) rfl rfl rfl rfl g_1 ?_
  refine jw_icmp_ge (tgt := 33) (pc' := 10) rfl rfl (fun c_2 => ?_) (fun c_2 => ?_)
  · replace w := w.1 c_2
    refine jw_iconst (pc' := 34) (x := (-1 : Int32)) rfl rfl ?_
    exact jw_ireturn rfl rfl (rfl) w
  · replace w := w.2 c_2
    refine jw_aload_n (pc' := 11) rfl rfl ?_
    refine jw_getR (pc' := 14) (F := 300) (t' := 212) rfl rfl rfl rfl rfl g_1 ?_
    refine jw_iload_n (pc' := 15) rfl rfl ?_
    obtain ⟨g_3, w⟩ := w
    obtain ⟨g_4, w⟩ := w
    refine jw_aald (pc' := 16) (t' := 48) rfl rfl rfl rfl g_3 g_4.ix g_4.2 ?_
    refine jw_aload_n (pc' := 17) rfl rfl ?_
    refine jw_getR (pc' := 20) (F := 284) (t' := 204) rfl rfl rfl rfl rfl g_1 ?_
    refine jw_iload_n (pc' := 21) rfl rfl ?_
    obtain ⟨g_5, w⟩ := w
    obtain ⟨g_6, w⟩ := w
    refine jw_aald (pc' := 22) (t' := 48) rfl rfl rfl rfl g_5 g_6.ix g_6.2 ?_
    refine jw_acmp_ne (tgt := 27) (pc' := 25) rfl rfl (fun c_7 => ?_) (fun c_7 => ?_)
    · replace w := w.1 c_7
      refine jw_iinc (pc' := 30) (y := x3 + (1 : Int32)) (ls' := [none, some (vR 47 r1), some (vI x2), some (vI (x3 + (1 : Int32)))]) rfl (by decide) rfl rfl rfl ?_
      refine jw_goto (pc' := 2) rfl rfl ?_
      exact hK2 _ _ _ _ w
    · replace w := w.2 c_7
      refine jw_iload_n (pc' := 26) rfl rfl ?_
      exact jw_ireturn rfl rfl (rfl) w
def L_X8_firstColumn_2 (D : JD) (d : Nat) (Q : JO → JH → Prop) : Nat → Nat → Int32 → Int32 → JH → Prop
  | 0 => fun _ _ _ _ => False
  | n + 1 => fun r1 x2 x3 h => W_X8_firstColumn_2 D d Q (L_X8_firstColumn_2 D d Q n) r1 x2 x3 h
theorem l_X8_firstColumn_2 {D : JD} {d : Nat} {Q : JO → JH → Prop} : ∀ (n : Nat) (r1 : Nat) (x2 : Int32) (x3 : Int32) (h : JH), L_X8_firstColumn_2 D d Q n r1 x2 x3 h → JW D (d + 1) mX8_firstColumn 2 [none, some (vR 47 r1), some (vI x2), some (vI x3)] [] h Q := by
  intro n
  induction n with
  | zero => intro _ _ _ _ w; exact w.elim
  | succ n ih => intro _ _ _ h w; exact w_X8_firstColumn_2 ih w
def W_X8_firstColumn_0 (D : JD) (d : Nat) (Q : JO → JH → Prop) (r1 : Nat) (x2 : Int32) (h : JH) : Prop :=
  ∃ n, L_X8_firstColumn_2 D d Q n r1 x2 (0 : Int32) h
theorem w_X8_firstColumn_0 {D : JD} {d : Nat} {Q : JO → JH → Prop} {r1 : Nat} {x2 : Int32} {h : JH} (w : W_X8_firstColumn_0 D d Q r1 x2 h) : JW D (d + 1) mX8_firstColumn 0 [none, some (vR 47 r1), some (vI x2), none] [] h Q := by
  unfold W_X8_firstColumn_0 at w
  refine jw_iconst (pc' := 1) (x := (0 : Int32)) rfl rfl ?_
  refine jw_istore_n (pc' := 2) (ls' := [none, some (vR 47 r1), some (vI x2), some (vI (0 : Int32))]) rfl (by decide) rfl ?_
  obtain ⟨n, w⟩ := w
  exact l_X8_firstColumn_2 n _ _ _ _ w
def T_X8_firstColumn (D : JD) (d : Nat) (Q : JO → JH → Prop) (r0 : Nat) (r1 : Nat) (x2 : Int32) (h : JH) : Prop := W_X8_firstColumn_0 D d Q r1 x2 h
theorem t_X8_firstColumn {D : JD} {d : Nat} {Q : JO → JH → Prop} {r0 : Nat} {r1 : Nat} {x2 : Int32} {h : JH} (w : T_X8_firstColumn D d Q r0 r1 x2 h) : cX8_firstColumn D (d + 1) r0 r1 x2 h Q := by
  unfold T_X8_firstColumn at w
  unfold cX8_firstColumn
  refine jw_gen (ls' := [none, some (vR 47 r1), some (vI x2), none]) (st' := []) (And.intro (Or.inl rfl) (And.intro (Or.inl rfl) (trivial))) (trivial) ?_
  exact w_X8_firstColumn_0 w
def W_X8_change_216 (D : JD) (d : Nat) (Q : JO → JH → Prop) (h : JH) : Prop :=
  Q (.inl none) h
theorem w_X8_change_216 {D : JD} {d : Nat} {Q : JO → JH → Prop} {h : JH} (w : W_X8_change_216 D d Q h) : JW D (d + 1) mX8_change 216 [none, none, none, none, none, none] [] h Q := by
  unfold W_X8_change_216 at w
  refine jw_goto (pc' := 263) rfl rfl ?_
  exact jw_return rfl rfl w
def W_X8_change_219 (D : JD) (d : Nat) (Q : JO → JH → Prop) (r0 : Nat) (r2 : Nat) (q0 : Nat) (h : JH) : Prop :=
  q0 ≠ 0 ∧ (r0 ≠ 0 ∧ (r2 ≠ 0 ∧ (cX11_take D d r2 (jfr h 180 r0) h (pV D h (fun h_4 => (jfr h_4 175 r0) ≠ 0 ∧ jfi h_4 330 (jfr h_4 175 r0) ≠ 0 ∧ ∀ h_9 : JH, h_9 = wfr h_4 245 (jfr h_4 175 r0) (jfr h 245 q0) → ((jfr h_9 175 r0) ≠ 0 ∧ jfi h_9 330 (jfr h_9 175 r0) ≠ 0 ∧ ∀ h_13 : JH, h_13 = wfi h_9 246 (jfr h_9 175 r0) (jfi h 246 q0) → ((jfr h_13 175 r0) ≠ 0 ∧ (Q (.inr (jfr h_13 175 r0)) h_13)))) (jth Q)))))
theorem w_X8_change_219 {D : JD} {d : Nat} {Q : JO → JH → Prop} {r0 : Nat} {r2 : Nat} {q0 : Nat} {h : JH} (w : W_X8_change_219 D d Q r0 r2 q0 h) : JW D (d + 1) mX8_change 219 [some (vR 41 r0), none, some (vR 44 r2), none, none, none] [vR 42 q0] h Q := by
  unfold W_X8_change_219 at w
  refine jw_astore_n (pc' := 220) (ls' := [some (vR 41 r0), none, some (vR 44 r2), some (vR 42 q0), none, none]) rfl (by decide) rfl ?_
  refine jw_aload_n (pc' := 221) rfl rfl ?_
  obtain ⟨g_1, w⟩ := w
  refine jw_getR (pc' := 224) (F := 245) (t' := 64) rfl rfl rfl rfl rfl g_1 ?_
  refine jw_astore (pc' := 226) (ls' := [some (vR 41 r0), none, some (vR 44 r2), some (vR 42 q0), some (vR 64 (jfr h 245 q0)), none]) rfl (by decide) rfl ?_
  refine jw_aload_n (pc' := 227) rfl rfl ?_
  refine jw_getI (pc' := 230) (F := 246) rfl rfl rfl rfl g_1 ?_
  refine jw_istore (pc' := 232) (ls' := [some (vR 41 r0), none, some (vR 44 r2), some (vR 42 q0), some (vR 64 (jfr h 245 q0)), some (vI (jfi h 246 q0))]) rfl (by decide) rfl ?_
  refine jw_aload_n (pc' := 233) rfl rfl ?_
  refine jw_aload_n (pc' := 234) rfl rfl ?_
  obtain ⟨g_2, w⟩ := w
  refine jw_getR (pc' := 237) (F := 180) (t' := 119) rfl rfl rfl rfl rfl g_2 ?_
  obtain ⟨g_3, w⟩ := w
  refine jw_cV (st := []) (sa := [vR 44 r2, vR 119 (jfr h 180 r0)]) okX11_take rfl rfl rfl rfl rfl rfl (jstp_virtual (sa := [vR 119 (jfr h 180 r0)]) (st := []) (k := 0) rfl rfl sX11_take okX11_take g_3 (one44.k g_3) rfl rfl) w (fun h_4 _ _ w => ?_)
  refine jw_aload_n (pc' := 241) rfl rfl ?_
  refine jw_getR (pc' := 244) (F := 175) (t' := 42) rfl rfl rfl rfl rfl g_2 ?_
  refine jw_aload (pc' := 246) rfl rfl ?_
  obtain ⟨g_7, w⟩ := w
  obtain ⟨g_8, w⟩ := w
  refine jw_putR' (pc' := 249) (F := 245) rfl rfl rfl (Or.inr rfl) (Or.inl rfl) rfl rfl rfl g_7 (fun h_9 e_10 => ?_) (hx := Or.inr g_8)
  replace w := w h_9 e_10
  refine jw_aload_n (pc' := 250) rfl rfl ?_
  refine jw_getR (pc' := 253) (F := 175) (t' := 42) rfl rfl rfl rfl rfl g_2 ?_
  refine jw_iload (pc' := 255) rfl rfl ?_
  obtain ⟨g_11, w⟩ := w
  obtain ⟨g_12, w⟩ := w
  refine jw_putI' (pc' := 258) (F := 246) rfl rfl rfl (Or.inr rfl) (Or.inl rfl) rfl (rfl) (rfl) rfl g_11 (fun h_13 e_14 => ?_) (hx := Or.inr g_12)
  replace w := w h_13 e_14
  refine jw_aload_n (pc' := 259) rfl rfl ?_
  refine jw_getR (pc' := 262) (F := 175) (t' := 42) rfl rfl rfl rfl rfl g_2 ?_
  obtain ⟨g_15, w⟩ := w
  exact jw_athrow rfl rfl g_15 w
def W_X8_change_56 (D : JD) (d : Nat) (Q : JO → JH → Prop) (K56 : Nat → Nat → Nat → Int32 → JH → Prop) (r0 : Nat) (r1 : Nat) (r2 : Nat) (x3 : Int32) (h : JH) : Prop :=
  r1 ≠ 0 ∧ (((jfi h 273 r1) ≤ x3 → r0 ≠ 0 ∧ ((jfr h 178 r0) ≠ 0 ∧ (∀ h_5 : JH, h_5 = wfi h 247 (jfr h 178 r0) ((jfi h 247 (jfr h 178 r0)) + (1 : Int32)) → (Q (.inl none) h_5)))) ∧ (¬ (jfi h 273 r1) ≤ x3 → r2 ≠ 0 ∧ ((jfr h 272 r1) ≠ 0 ∧ jin x3 (jln h (jfr h 272 r1)) ∧ ((jfr h 251 r2) ≠ 0 ∧ jin x3 (jln h (jfr h 251 r2)) ∧ ∀ h_12 : JH, h_12 = war h (jfr h 251 r2) (ixn x3) (jar h (jfr h 272 r1) (ixn x3)) → ((jfr h_12 274 r1) ≠ 0 ∧ jin x3 (jln h_12 (jfr h_12 274 r1)) ∧ ((jfr h_12 252 r2) ≠ 0 ∧ jin x3 (jln h_12 (jfr h_12 252 r2)) ∧ ∀ h_18 : JH, h_18 = wai h_12 (jfr h_12 252 r2) (ixn x3) (jai h_12 (jfr h_12 274 r1) (ixn x3)) → ((jfr h_18 275 r1) ≠ 0 ∧ jin x3 (jln h_18 (jfr h_18 275 r1)) ∧ ((jfr h_18 253 r2) ≠ 0 ∧ jin x3 (jln h_18 (jfr h_18 253 r2)) ∧ jbo (jai h_18 (jfr h_18 275 r1) (ixn x3)) ∧ ∀ h_25 : JH, h_25 = wai h_18 (jfr h_18 253 r2) (ixn x3) (jai h_18 (jfr h_18 275 r1) (ixn x3)) → ((jfr h_25 276 r1) ≠ 0 ∧ jin x3 (jln h_25 (jfr h_25 276 r1)) ∧ ((jfr h_25 254 r2) ≠ 0 ∧ jin x3 (jln h_25 (jfr h_25 254 r2)) ∧ jbo (jai h_25 (jfr h_25 276 r1) (ixn x3)) ∧ ∀ h_32 : JH, h_32 = wai h_25 (jfr h_25 254 r2) (ixn x3) (jai h_25 (jfr h_25 276 r1) (ixn x3)) → (K56 r0 r1 r2 (x3 + (1 : Int32)) h_32)))))))))))
theorem w_X8_change_56 {D : JD} {d : Nat} {Q : JO → JH → Prop} {K56 : Nat → Nat → Nat → Int32 → JH → Prop} {r0 : Nat} {r1 : Nat} {r2 : Nat} {x3 : Int32} {h : JH} (hK56 : ∀ (r0 : Nat) (r1 : Nat) (r2 : Nat) (x3 : Int32) (h : JH), K56 r0 r1 r2 x3 h → JW D (d + 1) mX8_change 56 [some (vR 41 r0), some (vR 47 r1), some (vR 44 r2), some (vI x3), none, none] [] h Q) (w : W_X8_change_56 D d Q K56 r0 r1 r2 x3 h) : JW D (d + 1) mX8_change 56 [some (vR 41 r0), some (vR 47 r1), some (vR 44 r2), some (vI x3), none, none] [] h Q := by
  unfold W_X8_change_56 at w
  refine jw_iload_n (pc' := 57) rfl rfl ?_
  refine jw_aload_n (pc' := 58) rfl rfl ?_
  obtain ⟨g_1, w⟩ := w
  refine jw_getI (pc' := 61) (F := 273) rfl rfl rfl rfl g_1 ?_
  refine jw_icmp_ge (tgt := 118) (pc' := 64) rfl rfl (fun c_2 => ?_) (fun c_2 => ?_)
  · replace w := w.1 c_2
    refine jw_aload_n (pc' := 119) rfl rfl ?_
    obtain ⟨g_3, w⟩ := w
    refine jw_getR (pc' := 122) (F := 178) (t' := 116) rfl rfl rfl rfl rfl g_3 ?_
    refine jw_dup (pc' := 123) rfl rfl ?_
    obtain ⟨g_4, w⟩ := w
    refine jw_getI (pc' := 126) (F := 247) rfl rfl rfl rfl g_4 ?_
    refine jw_iconst (pc' := 127) (x := (1 : Int32)) rfl rfl ?_
    refine jw_iadd (pc' := 128) rfl ?_
    refine jw_putI' (pc' := 131) (F := 247) rfl rfl rfl (Or.inr rfl) (Or.inl rfl) rfl (rfl) (rfl) rfl g_4 (fun h_5 e_6 => ?_)
    replace w := w h_5 e_6
    exact jw_return rfl rfl w
  · replace w := w.2 c_2
    refine jw_aload_n (pc' := 65) rfl rfl ?_
    obtain ⟨g_7, w⟩ := w
    refine jw_getR (pc' := 68) (F := 251) (t' := 188) rfl rfl rfl rfl rfl g_7 ?_
    refine jw_iload_n (pc' := 69) rfl rfl ?_
    refine jw_aload_n (pc' := 70) rfl rfl ?_
    refine jw_getR (pc' := 73) (F := 272) (t' := 198) rfl rfl rfl rfl rfl g_1 ?_
    refine jw_iload_n (pc' := 74) rfl rfl ?_
    obtain ⟨g_8, w⟩ := w
    obtain ⟨g_9, w⟩ := w
    refine jw_aald (pc' := 75) (t' := 64) rfl rfl rfl rfl g_8 g_9.ix g_9.2 ?_
    obtain ⟨g_10, w⟩ := w
    obtain ⟨g_11, w⟩ := w
    refine jw_aast' (pc' := 76) rfl rfl rfl rfl rfl rfl g_10 g_11 (fun h_12 e_13 => ?_)
    replace w := w h_12 e_13
    refine jw_aload_n (pc' := 77) rfl rfl ?_
    refine jw_getR (pc' := 80) (F := 252) (t' := 189) rfl rfl rfl rfl rfl g_7 ?_
    refine jw_iload_n (pc' := 81) rfl rfl ?_
    refine jw_aload_n (pc' := 82) rfl rfl ?_
    refine jw_getR (pc' := 85) (F := 274) (t' := 199) rfl rfl rfl rfl rfl g_1 ?_
    refine jw_iload_n (pc' := 86) rfl rfl ?_
    obtain ⟨g_14, w⟩ := w
    obtain ⟨g_15, w⟩ := w
    refine jw_iald (pc' := 87) rfl rfl rfl rfl g_14 g_15.ix g_15.2 ?_
    obtain ⟨g_16, w⟩ := w
    obtain ⟨g_17, w⟩ := w
    refine jw_iast' (pc' := 88) rfl rfl rfl rfl rfl g_16 g_17 (fun h_18 e_19 => ?_)
    replace w := w h_18 e_19
    refine jw_aload_n (pc' := 89) rfl rfl ?_
    refine jw_getR (pc' := 92) (F := 253) (t' := 190) rfl rfl rfl rfl rfl g_7 ?_
    refine jw_iload_n (pc' := 93) rfl rfl ?_
    refine jw_aload_n (pc' := 94) rfl rfl ?_
    refine jw_getR (pc' := 97) (F := 275) (t' := 200) rfl rfl rfl rfl rfl g_1 ?_
    refine jw_iload_n (pc' := 98) rfl rfl ?_
    obtain ⟨g_20, w⟩ := w
    obtain ⟨g_21, w⟩ := w
    refine jw_zald (pc' := 99) rfl rfl rfl rfl g_20 g_21.ix g_21.2 ?_
    obtain ⟨g_22, w⟩ := w
    obtain ⟨g_23, w⟩ := w
    obtain ⟨g_24, w⟩ := w
    refine jw_zast' (pc' := 100) rfl rfl rfl rfl rfl (g_24.nr) g_22 g_23 (fun h_25 e_26 => ?_)
    replace w := w h_25 e_26
    refine jw_aload_n (pc' := 101) rfl rfl ?_
    refine jw_getR (pc' := 104) (F := 254) (t' := 191) rfl rfl rfl rfl rfl g_7 ?_
    refine jw_iload_n (pc' := 105) rfl rfl ?_
    refine jw_aload_n (pc' := 106) rfl rfl ?_
    refine jw_getR (pc' := 109) (F := 276) (t' := 201) rfl rfl rfl rfl rfl g_1 ?_
    refine jw_iload_n (pc' := 110) rfl rfl ?_
    obtain ⟨g_27, w⟩ := w
    obtain ⟨g_28, w⟩ := w
    refine jw_zald (pc' := 111) rfl rfl rfl rfl g_27 g_28.ix g_28.2 ?_
    obtain ⟨g_29, w⟩ := w
    obtain ⟨g_30, w⟩ := w
    obtain ⟨g_31, w⟩ := w
    refine jw_zast' (pc' := 112) rfl rfl rfl rfl rfl (g_31.nr) g_29 g_30 (fun h_32 e_33 => ?_)
    replace w := w h_32 e_33
    refine jw_iinc (pc' := 115) (y := x3 + (1 : Int32)) (ls' := [some (vR 41 r0), some (vR 47 r1), some (vR 44 r2), some (vI (x3 + (1 : Int32))), none, none]) rfl (by decide) rfl rfl rfl ?_
    refine jw_goto (pc' := 56) rfl rfl ?_
    exact hK56 _ _ _ _ _ w
def L_X8_change_56 (D : JD) (d : Nat) (Q : JO → JH → Prop) : Nat → Nat → Nat → Nat → Int32 → JH → Prop
  | 0 => fun _ _ _ _ _ => False
  | n + 1 => fun r0 r1 r2 x3 h => W_X8_change_56 D d Q (L_X8_change_56 D d Q n) r0 r1 r2 x3 h
theorem l_X8_change_56 {D : JD} {d : Nat} {Q : JO → JH → Prop} : ∀ (n : Nat) (r0 : Nat) (r1 : Nat) (r2 : Nat) (x3 : Int32) (h : JH), L_X8_change_56 D d Q n r0 r1 r2 x3 h → JW D (d + 1) mX8_change 56 [some (vR 41 r0), some (vR 47 r1), some (vR 44 r2), some (vI x3), none, none] [] h Q := by
  intro n
  induction n with
  | zero => intro _ _ _ _ _ w; exact w.elim
  | succ n ih => intro _ _ _ _ h w; exact w_X8_change_56 ih w
def W_X8_change_0 (D : JD) (d : Nat) (Q : JO → JH → Prop) (r0 : Nat) (r1 : Nat) (h : JH) : Prop :=
  r0 ≠ 0 ∧ ∀ h_2 : JH, h_2 = wfi h 177 r0 (0 : Int32) → (∀ h_4 : JH, h_4 = wfi h_2 220 r0 (0 : Int32) → (r1 ≠ 0 ∧ ((¬ (jfi h_4 270 r1) = 0 → (jfr h_4 178 r0) ≠ 0 ∧ (cX10_find D d (jfr h_4 178 r0) (jfr h_4 271 r1) h_4 (pR D h_4 44 (fun v_11 h_9 => (¬ (jfi h_9 270 r1) = (1 : Int32) → (jfr h_9 200 r0) ≠ 0 ∧ jin (0 : Int32) (jln h_9 (jfr h_9 200 r0)) ∧ ∀ h_15 : JH, h_15 = war h_9 (jfr h_9 200 r0) (ixn (0 : Int32)) v_11 → ((jfr h_15 180 r0) ≠ 0 ∧ (cX11_take D d (jfr h_15 180 r0) v_11 h_15 (pV D h_15 (fun h_18 => (¬ (jfi h_18 270 r1) = (2 : Int32) → (¬ (jfi h_18 270 r1) = (3 : Int32) → cX8_delete D d r0 r1 v_11 h_18 (pV D h_18 (fun h_23 => W_X8_change_216 D d Q h_23) (fun x_26 h_27 => (jkd h_27 x_26 = 42 ∧ W_X8_change_219 D d Q r0 v_11 x_26 h_27)))) ∧ ((jfi h_18 270 r1) = (3 : Int32) → cX8_update_2 D d r0 r1 v_11 h_18 (pV D h_18 (fun h_29 => W_X8_change_216 D d Q h_29) (fun x_32 h_33 => (jkd h_33 x_32 = 42 ∧ W_X8_change_219 D d Q r0 v_11 x_32 h_33))))) ∧ ((jfi h_18 270 r1) = (2 : Int32) → cX8_insert_2 D d r0 r1 v_11 h_18 (pV D h_18 (fun h_35 => W_X8_change_216 D d Q h_35) (fun x_38 h_39 => (jkd h_39 x_38 = 42 ∧ W_X8_change_219 D d Q r0 v_11 x_38 h_39))))) (jth Q))))) ∧ ((jfi h_9 270 r1) = (1 : Int32) → (jfr h_9 178 r0) ≠ 0 ∧ (cX10_drop D d (jfr h_9 178 r0) v_11 h_9 (pV D h_9 (fun h_42 => Q (.inl none) h_42) (jth Q))))) (jth Q)))) ∧ ((jfi h_4 270 r1) = 0 → (jfr h_4 178 r0) ≠ 0 ∧ ((jfr h_4 248 (jfr h_4 178 r0)) ≠ 0 ∧ jin (jfi h_4 247 (jfr h_4 178 r0)) (jln h_4 (jfr h_4 248 (jfr h_4 178 r0))) ∧ ((jar h_4 (jfr h_4 248 (jfr h_4 178 r0)) (ixn (jfi h_4 247 (jfr h_4 178 r0)))) ≠ 0 ∧ ∀ h_49 : JH, h_49 = wfr h_4 249 (jar h_4 (jfr h_4 248 (jfr h_4 178 r0)) (ixn (jfi h_4 247 (jfr h_4 178 r0)))) (jfr h_4 271 r1) → (∀ h_51 : JH, h_51 = wfi h_49 255 (jar h_4 (jfr h_4 248 (jfr h_4 178 r0)) (ixn (jfi h_4 247 (jfr h_4 178 r0)))) (0 : Int32) → (∀ h_53 : JH, h_53 = wfi h_51 250 (jar h_4 (jfr h_4 248 (jfr h_4 178 r0)) (ixn (jfi h_4 247 (jfr h_4 178 r0)))) (jfi h_51 273 r1) → (∃ n, L_X8_change_56 D d Q n r0 r1 (jar h_4 (jfr h_4 248 (jfr h_4 178 r0)) (ixn (jfi h_4 247 (jfr h_4 178 r0)))) (0 : Int32) h_53)))))))))
theorem w_X8_change_0 {D : JD} {d : Nat} {Q : JO → JH → Prop} {r0 : Nat} {r1 : Nat} {h : JH} (w : W_X8_change_0 D d Q r0 r1 h) : JW D (d + 1) mX8_change 0 [some (vR 41 r0), some (vR 47 r1), none, none, none, none] [] h Q := by
  unfold W_X8_change_0 at w
  refine jw_aload_n (pc' := 1) rfl rfl ?_
  refine jw_iconst (pc' := 2) (x := (0 : Int32)) rfl rfl ?_
  obtain ⟨g_1, w⟩ := w
  refine jw_putI' (pc' := 5) (F := 177) rfl rfl rfl (Or.inr rfl) (Or.inl rfl) rfl (rfl) (rfl) rfl g_1 (fun h_2 e_3 => ?_)
  replace w := w h_2 e_3
  refine jw_aload_n (pc' := 6) rfl rfl ?_
  refine jw_iconst (pc' := 7) (x := (0 : Int32)) rfl rfl ?_
  refine jw_putI' (pc' := 10) (F := 220) rfl rfl rfl (Or.inr rfl) (Or.inl rfl) rfl (rfl) (rfl) rfl g_1 (fun h_4 e_5 => ?_)
  replace w := w h_4 e_5
  refine jw_aload_n (pc' := 11) rfl rfl ?_
  obtain ⟨g_6, w⟩ := w
  refine jw_getI (pc' := 14) (F := 270) rfl rfl rfl rfl g_6 ?_
  refine jw_if_ne (tgt := 132) (pc' := 17) rfl rfl (fun c_7 => ?_) (fun c_7 => ?_)
  · replace w := w.1 c_7
    refine jw_aload_n (pc' := 133) rfl rfl ?_
    refine jw_getR (pc' := 136) (F := 178) (t' := 116) rfl rfl rfl rfl rfl g_1 ?_
    refine jw_aload_n (pc' := 137) rfl rfl ?_
    refine jw_getR (pc' := 140) (F := 271) (t' := 64) rfl rfl rfl rfl rfl g_6 ?_
    obtain ⟨g_8, w⟩ := w
    refine jw_cR (st := []) (sa := [vR 116 (jfr h_4 178 r0), vR 64 (jfr h_4 271 r1)]) okX10_find rfl rfl rfl rfl rfl rfl (jstp_virtual (sa := [vR 64 (jfr h_4 271 r1)]) (st := []) (k := 0) rfl rfl sX10_find okX10_find g_8 (one116.k g_8) rfl rfl) w (fun v_11 h_9 _ _ _ w => ?_)
    refine jw_astore_n (pc' := 144) (ls' := [some (vR 41 r0), some (vR 47 r1), some (vR 44 v_11), none, none, none]) rfl (by decide) rfl ?_
    refine jw_aload_n (pc' := 145) rfl rfl ?_
    refine jw_getI (pc' := 148) (F := 270) rfl rfl rfl rfl g_6 ?_
    refine jw_iconst (pc' := 149) (x := (1 : Int32)) rfl rfl ?_
    refine jw_icmp_ne (tgt := 161) (pc' := 152) rfl rfl (fun c_12 => ?_) (fun c_12 => ?_)
    · replace w := w.1 c_12
      refine jw_aload_n (pc' := 162) rfl rfl ?_
      refine jw_getR (pc' := 165) (F := 200) (t' := 167) rfl rfl rfl rfl rfl g_1 ?_
      refine jw_iconst (pc' := 166) (x := (0 : Int32)) rfl rfl ?_
      refine jw_aload_n (pc' := 167) rfl rfl ?_
      obtain ⟨g_13, w⟩ := w
      obtain ⟨g_14, w⟩ := w
      refine jw_aast' (pc' := 168) rfl rfl rfl rfl rfl rfl g_13 g_14 (fun h_15 e_16 => ?_)
      replace w := w h_15 e_16
      refine jw_aload_n (pc' := 169) rfl rfl ?_
      refine jw_getR (pc' := 172) (F := 180) (t' := 119) rfl rfl rfl rfl rfl g_1 ?_
      refine jw_aload_n (pc' := 173) rfl rfl ?_
      obtain ⟨g_17, w⟩ := w
      refine jw_cV (st := []) (sa := [vR 119 (jfr h_15 180 r0), vR 44 v_11]) okX11_take rfl rfl rfl rfl rfl rfl (jstp_virtual (sa := [vR 44 v_11]) (st := []) (k := 0) rfl rfl sX11_take okX11_take g_17 (one119.k g_17) rfl rfl) w (fun h_18 _ _ w => ?_)
      refine jw_aload_n (pc' := 177) rfl rfl ?_
      refine jw_getI (pc' := 180) (F := 270) rfl rfl rfl rfl g_6 ?_
      refine jw_iconst (pc' := 181) (x := (2 : Int32)) rfl rfl ?_
      refine jw_icmp_ne (tgt := 193) (pc' := 184) rfl rfl (fun c_21 => ?_) (fun c_21 => ?_)
      · replace w := w.1 c_21
        refine jw_aload_n (pc' := 194) rfl rfl ?_
        refine jw_getI (pc' := 197) (F := 270) rfl rfl rfl rfl g_6 ?_
        refine jw_iconst (pc' := 198) (x := (3 : Int32)) rfl rfl ?_
        refine jw_icmp_ne (tgt := 210) (pc' := 201) rfl rfl (fun c_22 => ?_) (fun c_22 => ?_)
        · replace w := w.1 c_22
          refine jw_aload_n (pc' := 211) rfl rfl ?_
          refine jw_aload_n (pc' := 212) rfl rfl ?_
          refine jw_aload_n (pc' := 213) rfl rfl ?_
          refine jw_cVH (st := []) (sa := [vR 41 r0, vR 47 r1, vR 44 v_11]) okX8_delete rfl rfl rfl rfl rfl (jstp_virtual (sa := [vR 47 r1, vR 44 v_11]) (st := []) (k := 0) rfl rfl sX8_delete okX8_delete g_1 (one41.k g_1) rfl rfl) w (fun h_23 _ _ w => ?_) (fun x_26 h_27 _ _ w => ?_)
          · refine jw_gen (ls' := [none, none, none, none, none, none]) (st' := []) (trivial) (trivial) ?_
            exact w_X8_change_216 w
          · obtain ⟨e_28, w⟩ := w
            refine ⟨219, by rw [e_28]; rfl, by rw [e_28]; rfl, ?_⟩
            rw [e_28]
            refine jw_gen (ls' := [some (vR 41 r0), none, some (vR 44 v_11), none, none, none]) (st' := [vR 42 x_26]) (And.intro (Or.inl rfl) (And.intro (Or.inl rfl) (trivial))) (And.intro (Or.inl rfl) (trivial)) ?_
            exact w_X8_change_219 w
        · replace w := w.2 c_22
          refine jw_aload_n (pc' := 202) rfl rfl ?_
          refine jw_aload_n (pc' := 203) rfl rfl ?_
          refine jw_aload_n (pc' := 204) rfl rfl ?_
          refine jw_cVH (st := []) (sa := [vR 41 r0, vR 47 r1, vR 44 v_11]) okX8_update_2 rfl rfl rfl rfl rfl (jstp_virtual (sa := [vR 47 r1, vR 44 v_11]) (st := []) (k := 0) rfl rfl sX8_update_2 okX8_update_2 g_1 (one41.k g_1) rfl rfl) w (fun h_29 _ _ w => ?_) (fun x_32 h_33 _ _ w => ?_)
          · refine jw_goto (pc' := 216) rfl rfl ?_
            refine jw_gen (ls' := [none, none, none, none, none, none]) (st' := []) (trivial) (trivial) ?_
            exact w_X8_change_216 w
          · obtain ⟨e_34, w⟩ := w
            refine ⟨219, by rw [e_34]; rfl, by rw [e_34]; rfl, ?_⟩
            rw [e_34]
            refine jw_gen (ls' := [some (vR 41 r0), none, some (vR 44 v_11), none, none, none]) (st' := [vR 42 x_32]) (And.intro (Or.inl rfl) (And.intro (Or.inl rfl) (trivial))) (And.intro (Or.inl rfl) (trivial)) ?_
            exact w_X8_change_219 w
      · replace w := w.2 c_21
        refine jw_aload_n (pc' := 185) rfl rfl ?_
        refine jw_aload_n (pc' := 186) rfl rfl ?_
        refine jw_aload_n (pc' := 187) rfl rfl ?_
        refine jw_cVH (st := []) (sa := [vR 41 r0, vR 47 r1, vR 44 v_11]) okX8_insert_2 rfl rfl rfl rfl rfl (jstp_virtual (sa := [vR 47 r1, vR 44 v_11]) (st := []) (k := 0) rfl rfl sX8_insert_2 okX8_insert_2 g_1 (one41.k g_1) rfl rfl) w (fun h_35 _ _ w => ?_) (fun x_38 h_39 _ _ w => ?_)
        · refine jw_goto (pc' := 216) rfl rfl ?_
          refine jw_gen (ls' := [none, none, none, none, none, none]) (st' := []) (trivial) (trivial) ?_
          exact w_X8_change_216 w
        · obtain ⟨e_40, w⟩ := w
          refine ⟨219, by rw [e_40]; rfl, by rw [e_40]; rfl, ?_⟩
          rw [e_40]
          refine jw_gen (ls' := [some (vR 41 r0), none, some (vR 44 v_11), none, none, none]) (st' := [vR 42 x_38]) (And.intro (Or.inl rfl) (And.intro (Or.inl rfl) (trivial))) (And.intro (Or.inl rfl) (trivial)) ?_
          exact w_X8_change_219 w
    · replace w := w.2 c_12
      refine jw_aload_n (pc' := 153) rfl rfl ?_
      refine jw_getR (pc' := 156) (F := 178) (t' := 116) rfl rfl rfl rfl rfl g_1 ?_
      refine jw_aload_n (pc' := 157) rfl rfl ?_
      obtain ⟨g_41, w⟩ := w
      refine jw_cV (st := []) (sa := [vR 116 (jfr h_9 178 r0), vR 44 v_11]) okX10_drop rfl rfl rfl rfl rfl rfl (jstp_virtual (sa := [vR 44 v_11]) (st := []) (k := 0) rfl rfl sX10_drop okX10_drop g_41 (one116.k g_41) rfl rfl) w (fun h_42 _ _ w => ?_)
      exact jw_return rfl rfl w
  · replace w := w.2 c_7
    refine jw_aload_n (pc' := 18) rfl rfl ?_
    refine jw_getR (pc' := 21) (F := 178) (t' := 116) rfl rfl rfl rfl rfl g_1 ?_
    obtain ⟨g_45, w⟩ := w
    refine jw_getR (pc' := 24) (F := 248) (t' := 187) rfl rfl rfl rfl rfl g_45 ?_
    refine jw_aload_n (pc' := 25) rfl rfl ?_
    refine jw_getR (pc' := 28) (F := 178) (t' := 116) rfl rfl rfl rfl rfl g_1 ?_
    refine jw_getI (pc' := 31) (F := 247) rfl rfl rfl rfl g_45 ?_
    obtain ⟨g_46, w⟩ := w
    obtain ⟨g_47, w⟩ := w
    refine jw_aald (pc' := 32) (t' := 44) rfl rfl rfl rfl g_46 g_47.ix g_47.2 ?_
    refine jw_astore_n (pc' := 33) (ls' := [some (vR 41 r0), some (vR 47 r1), some (vR 44 (jar h_4 (jfr h_4 248 (jfr h_4 178 r0)) (ixn (jfi h_4 247 (jfr h_4 178 r0))))), none, none, none]) rfl (by decide) rfl ?_
    refine jw_aload_n (pc' := 34) rfl rfl ?_
    refine jw_aload_n (pc' := 35) rfl rfl ?_
    refine jw_getR (pc' := 38) (F := 271) (t' := 64) rfl rfl rfl rfl rfl g_6 ?_
    obtain ⟨g_48, w⟩ := w
    refine jw_putR' (pc' := 41) (F := 249) rfl rfl rfl (Or.inr rfl) (Or.inl rfl) rfl rfl rfl g_48 (fun h_49 e_50 => ?_)
    replace w := w h_49 e_50
    refine jw_aload_n (pc' := 42) rfl rfl ?_
    refine jw_iconst (pc' := 43) (x := (0 : Int32)) rfl rfl ?_
    refine jw_putI' (pc' := 46) (F := 255) rfl rfl rfl (Or.inr rfl) (Or.inl rfl) rfl (rfl) (rfl) rfl g_48 (fun h_51 e_52 => ?_)
    replace w := w h_51 e_52
    refine jw_aload_n (pc' := 47) rfl rfl ?_
    refine jw_aload_n (pc' := 48) rfl rfl ?_
    refine jw_getI (pc' := 51) (F := 273) rfl rfl rfl rfl g_6 ?_
    refine jw_putI' (pc' := 54) (F := 250) rfl rfl rfl (Or.inr rfl) (Or.inl rfl) rfl (rfl) (rfl) rfl g_48 (fun h_53 e_54 => ?_)
    replace w := w h_53 e_54
    refine jw_iconst (pc' := 55) (x := (0 : Int32)) rfl rfl ?_
    refine jw_istore_n (pc' := 56) (ls' := [some (vR 41 r0), some (vR 47 r1), some (vR 44 (jar h_4 (jfr h_4 248 (jfr h_4 178 r0)) (ixn (jfi h_4 247 (jfr h_4 178 r0))))), some (vI (0 : Int32)), none, none]) rfl (by decide) rfl ?_
    obtain ⟨n, w⟩ := w
    exact l_X8_change_56 n _ _ _ _ _ w
def T_X8_change (D : JD) (d : Nat) (Q : JO → JH → Prop) (r0 : Nat) (r1 : Nat) (h : JH) : Prop := W_X8_change_0 D d Q r0 r1 h
theorem t_X8_change {D : JD} {d : Nat} {Q : JO → JH → Prop} {r0 : Nat} {r1 : Nat} {h : JH} (w : T_X8_change D d Q r0 r1 h) : cX8_change D (d + 1) r0 r1 h Q := by
  unfold T_X8_change at w
  unfold cX8_change
  exact w_X8_change_0 w
def W_X8_insert_2_224 (D : JD) (d : Nat) (Q : JO → JH → Prop) (K212 : Nat → Nat → Nat → Int32 → JH → Prop) (K224 : Nat → Nat → Nat → Int32 → Int32 → JH → Prop) (r0 : Nat) (r1 : Nat) (r2 : Nat) (x4 : Int32) (x5 : Int32) (h : JH) : Prop :=
  r2 ≠ 0 ∧ (((jfi h 250 r2) ≤ x5 → ∀ h_3 : JH, h_3 = wfi h 255 r2 ((jfi h 255 r2) + (1 : Int32)) → (r0 ≠ 0 ∧ (∀ h_6 : JH, h_6 = wfi h_3 220 r0 ((jfi h_3 220 r0) + (1 : Int32)) → (K212 r0 r1 r2 (x4 + (1 : Int32)) h_6)))) ∧ (¬ (jfi h 250 r2) ≤ x5 → cX11_cell D d r2 (jfi h 255 r2) x5 h (pR D h 46 (fun v_10 h_8 => r0 ≠ 0 ∧ ((jfr h_8 221 r0) ≠ 0 ∧ jin x4 (jln h_8 (jfr h_8 221 r0)) ∧ ((jar h_8 (jfr h_8 221 r0) (ixn x4)) ≠ 0 ∧ jin x5 (jln h_8 (jar h_8 (jfr h_8 221 r0) (ixn x4))) ∧ (v_10 ≠ 0 ∧ (cX13_take D d v_10 (jar h_8 (jar h_8 (jfr h_8 221 r0) (ixn x4)) (ixn x5)) h_8 (pV D h_8 (fun h_17 => K224 r0 r1 r2 x4 (x5 + (1 : Int32)) h_17) (jth Q))))))) (jth Q))))
theorem w_X8_insert_2_224 {D : JD} {d : Nat} {Q : JO → JH → Prop} {K212 : Nat → Nat → Nat → Int32 → JH → Prop} {K224 : Nat → Nat → Nat → Int32 → Int32 → JH → Prop} {r0 : Nat} {r1 : Nat} {r2 : Nat} {x4 : Int32} {x5 : Int32} {h : JH} (hK212 : ∀ (r0 : Nat) (r1 : Nat) (r2 : Nat) (x4 : Int32) (h : JH), K212 r0 r1 r2 x4 h → JW D (d + 1) mX8_insert_2 212 [some (vR 41 r0), some (vR 47 r1), some (vR 44 r2), none, some (vI x4), none] [] h Q) (hK224 : ∀ (r0 : Nat) (r1 : Nat) (r2 : Nat) (x4 : Int32) (x5 : Int32) (h : JH), K224 r0 r1 r2 x4 x5 h → JW D (d + 1) mX8_insert_2 224 [some (vR 41 r0), some (vR 47 r1), some (vR 44 r2), none, some (vI x4), some (vI x5)] [] h Q) (w : W_X8_insert_2_224 D d Q K212 K224 r0 r1 r2 x4 x5 h) : JW D (d + 1) mX8_insert_2 224 [some (vR 41 r0), some (vR 47 r1), some (vR 44 r2), none, some (vI x4), some (vI x5)] [] h Q := by
  unfold W_X8_insert_2_224 at w
  refine jw_iload (pc' := 226) rfl rfl ?_
  refine jw_aload_n (pc' := 227) rfl rfl ?_
  obtain ⟨g_1, w⟩ := w
  refine jw_getI (pc' := 230) (F := 250) rfl rfl rfl rfl g_1 ?_
  refine jw_icmp_ge (tgt := 262) (pc' := 233) rfl rfl (fun c_2 => ?_) (fun c_2 => ?_)
  · replace w := w.1 c_2
    refine jw_aload_n (pc' := 263) rfl rfl ?_
    refine jw_dup (pc' := 264) rfl rfl ?_
    refine jw_getI (pc' := 267) (F := 255) rfl rfl rfl rfl g_1 ?_
    refine jw_iconst (pc' := 268) (x := (1 : Int32)) rfl rfl ?_
    refine jw_iadd (pc' := 269) rfl ?_
    refine jw_putI' (pc' := 272) (F := 255) rfl rfl rfl (Or.inr rfl) (Or.inl rfl) rfl (rfl) (rfl) rfl g_1 (fun h_3 e_4 => ?_)
    replace w := w h_3 e_4
    refine jw_aload_n (pc' := 273) rfl rfl ?_
    refine jw_dup (pc' := 274) rfl rfl ?_
    obtain ⟨g_5, w⟩ := w
    refine jw_getI (pc' := 277) (F := 220) rfl rfl rfl rfl g_5 ?_
    refine jw_iconst (pc' := 278) (x := (1 : Int32)) rfl rfl ?_
    refine jw_iadd (pc' := 279) rfl ?_
    refine jw_putI' (pc' := 282) (F := 220) rfl rfl rfl (Or.inr rfl) (Or.inl rfl) rfl (rfl) (rfl) rfl g_5 (fun h_6 e_7 => ?_)
    replace w := w h_6 e_7
    refine jw_iinc (pc' := 285) (y := x4 + (1 : Int32)) (ls' := [some (vR 41 r0), some (vR 47 r1), some (vR 44 r2), none, some (vI (x4 + (1 : Int32))), some (vI x5)]) rfl (by decide) rfl rfl rfl ?_
    refine jw_goto (pc' := 212) rfl rfl ?_
    refine jw_gen (ls' := [some (vR 41 r0), some (vR 47 r1), some (vR 44 r2), none, some (vI (x4 + (1 : Int32))), none]) (st' := []) (And.intro (Or.inl rfl) (And.intro (Or.inl rfl) (And.intro (Or.inl rfl) (And.intro (Or.inl rfl) (trivial))))) (trivial) ?_
    exact hK212 _ _ _ _ _ w
  · replace w := w.2 c_2
    refine jw_aload_n (pc' := 234) rfl rfl ?_
    refine jw_aload_n (pc' := 235) rfl rfl ?_
    refine jw_getI (pc' := 238) (F := 255) rfl rfl rfl rfl g_1 ?_
    refine jw_iload (pc' := 240) rfl rfl ?_
    refine jw_cR (st := []) (sa := [vR 44 r2, vI (jfi h 255 r2), vI x5]) okX11_cell rfl rfl rfl rfl rfl rfl (jstp_virtual (sa := [vI (jfi h 255 r2), vI x5]) (st := []) (k := 0) rfl rfl sX11_cell okX11_cell g_1 (one44.k g_1) rfl rfl) w (fun v_10 h_8 _ _ _ w => ?_)
    refine jw_aload_n (pc' := 244) rfl rfl ?_
    obtain ⟨g_11, w⟩ := w
    refine jw_getR (pc' := 247) (F := 221) (t' := 94) rfl rfl rfl rfl rfl g_11 ?_
    refine jw_iload (pc' := 249) rfl rfl ?_
    obtain ⟨g_12, w⟩ := w
    obtain ⟨g_13, w⟩ := w
    refine jw_aald (pc' := 250) (t' := 86) rfl rfl rfl rfl g_12 g_13.ix g_13.2 ?_
    refine jw_iload (pc' := 252) rfl rfl ?_
    obtain ⟨g_14, w⟩ := w
    obtain ⟨g_15, w⟩ := w
    refine jw_aald (pc' := 253) (t' := 46) rfl rfl rfl rfl g_14 g_15.ix g_15.2 ?_
    obtain ⟨g_16, w⟩ := w
    refine jw_cV (st := []) (sa := [vR 46 v_10, vR 46 (jar h_8 (jar h_8 (jfr h_8 221 r0) (ixn x4)) (ixn x5))]) okX13_take rfl rfl rfl rfl rfl rfl (jstp_virtual (sa := [vR 46 (jar h_8 (jar h_8 (jfr h_8 221 r0) (ixn x4)) (ixn x5))]) (st := []) (k := 0) rfl rfl sX13_take okX13_take g_16 (one46.k g_16) rfl rfl) w (fun h_17 _ _ w => ?_)
    refine jw_iinc (pc' := 259) (y := x5 + (1 : Int32)) (ls' := [some (vR 41 r0), some (vR 47 r1), some (vR 44 r2), none, some (vI x4), some (vI (x5 + (1 : Int32)))]) rfl (by decide) rfl rfl rfl ?_
    refine jw_goto (pc' := 224) rfl rfl ?_
    exact hK224 _ _ _ _ _ _ w
def L_X8_insert_2_224 (D : JD) (d : Nat) (Q : JO → JH → Prop) (K212 : Nat → Nat → Nat → Int32 → JH → Prop) : Nat → Nat → Nat → Nat → Int32 → Int32 → JH → Prop
  | 0 => fun _ _ _ _ _ _ => False
  | n + 1 => fun r0 r1 r2 x4 x5 h => W_X8_insert_2_224 D d Q K212 (L_X8_insert_2_224 D d Q K212 n) r0 r1 r2 x4 x5 h
theorem l_X8_insert_2_224 {D : JD} {d : Nat} {Q : JO → JH → Prop} {K212 : Nat → Nat → Nat → Int32 → JH → Prop} (hK212 : ∀ (r0 : Nat) (r1 : Nat) (r2 : Nat) (x4 : Int32) (h : JH), K212 r0 r1 r2 x4 h → JW D (d + 1) mX8_insert_2 212 [some (vR 41 r0), some (vR 47 r1), some (vR 44 r2), none, some (vI x4), none] [] h Q) : ∀ (n : Nat) (r0 : Nat) (r1 : Nat) (r2 : Nat) (x4 : Int32) (x5 : Int32) (h : JH), L_X8_insert_2_224 D d Q K212 n r0 r1 r2 x4 x5 h → JW D (d + 1) mX8_insert_2 224 [some (vR 41 r0), some (vR 47 r1), some (vR 44 r2), none, some (vI x4), some (vI x5)] [] h Q := by
  intro n
  induction n with
  | zero => intro _ _ _ _ _ _ w; exact w.elim
  | succ n ih => intro _ _ _ _ _ h w; exact w_X8_insert_2_224 hK212 ih w
def W_X8_insert_2_212 (D : JD) (d : Nat) (Q : JO → JH → Prop) (K212 : Nat → Nat → Nat → Int32 → JH → Prop) (r0 : Nat) (r1 : Nat) (r2 : Nat) (x4 : Int32) (h : JH) : Prop :=
  r1 ≠ 0 ∧ (((jfi h 281 r1) ≤ x4 → r0 ≠ 0 ∧ (cX8_different D d r0 r2 h (pV D h (fun h_4 => Q (.inl none) h_4) (jth Q)))) ∧ (¬ (jfi h 281 r1) ≤ x4 → ∃ n, L_X8_insert_2_224 D d Q K212 n r0 r1 r2 x4 (0 : Int32) h))
theorem w_X8_insert_2_212 {D : JD} {d : Nat} {Q : JO → JH → Prop} {K212 : Nat → Nat → Nat → Int32 → JH → Prop} {r0 : Nat} {r1 : Nat} {r2 : Nat} {x4 : Int32} {h : JH} (hK212 : ∀ (r0 : Nat) (r1 : Nat) (r2 : Nat) (x4 : Int32) (h : JH), K212 r0 r1 r2 x4 h → JW D (d + 1) mX8_insert_2 212 [some (vR 41 r0), some (vR 47 r1), some (vR 44 r2), none, some (vI x4), none] [] h Q) (w : W_X8_insert_2_212 D d Q K212 r0 r1 r2 x4 h) : JW D (d + 1) mX8_insert_2 212 [some (vR 41 r0), some (vR 47 r1), some (vR 44 r2), none, some (vI x4), none] [] h Q := by
  unfold W_X8_insert_2_212 at w
  refine jw_iload (pc' := 214) rfl rfl ?_
  refine jw_aload_n (pc' := 215) rfl rfl ?_
  obtain ⟨g_1, w⟩ := w
  refine jw_getI (pc' := 218) (F := 281) rfl rfl rfl rfl g_1 ?_
  refine jw_icmp_ge (tgt := 288) (pc' := 221) rfl rfl (fun c_2 => ?_) (fun c_2 => ?_)
  · replace w := w.1 c_2
    refine jw_aload_n (pc' := 289) rfl rfl ?_
    refine jw_aload_n (pc' := 290) rfl rfl ?_
    obtain ⟨g_3, w⟩ := w
    refine jw_cV (st := []) (sa := [vR 41 r0, vR 44 r2]) okX8_different rfl rfl rfl rfl rfl rfl (jstp_virtual (sa := [vR 44 r2]) (st := []) (k := 0) rfl rfl sX8_different okX8_different g_3 (one41.k g_3) rfl rfl) w (fun h_4 _ _ w => ?_)
    exact jw_return rfl rfl w
  · replace w := w.2 c_2
    refine jw_iconst (pc' := 222) (x := (0 : Int32)) rfl rfl ?_
    refine jw_istore (pc' := 224) (ls' := [some (vR 41 r0), some (vR 47 r1), some (vR 44 r2), none, some (vI x4), some (vI (0 : Int32))]) rfl (by decide) rfl ?_
    obtain ⟨n, w⟩ := w
    exact l_X8_insert_2_224 hK212 n _ _ _ _ _ _ w
def L_X8_insert_2_212 (D : JD) (d : Nat) (Q : JO → JH → Prop) : Nat → Nat → Nat → Nat → Int32 → JH → Prop
  | 0 => fun _ _ _ _ _ => False
  | n + 1 => fun r0 r1 r2 x4 h => W_X8_insert_2_212 D d Q (L_X8_insert_2_212 D d Q n) r0 r1 r2 x4 h
theorem l_X8_insert_2_212 {D : JD} {d : Nat} {Q : JO → JH → Prop} : ∀ (n : Nat) (r0 : Nat) (r1 : Nat) (r2 : Nat) (x4 : Int32) (h : JH), L_X8_insert_2_212 D d Q n r0 r1 r2 x4 h → JW D (d + 1) mX8_insert_2 212 [some (vR 41 r0), some (vR 47 r1), some (vR 44 r2), none, some (vI x4), none] [] h Q := by
  intro n
  induction n with
  | zero => intro _ _ _ _ _ w; exact w.elim
  | succ n ih => intro _ _ _ _ h w; exact w_X8_insert_2_212 ih w
def W_X8_insert_2_203 (D : JD) (d : Nat) (Q : JO → JH → Prop) (r0 : Nat) (r1 : Nat) (r2 : Nat) (q0 : Nat) (s1 : Int32) (h : JH) : Prop :=
  q0 ≠ 0 ∧ (cX8_must D d q0 s1 (jcs D 302) h (pV D h (fun h_2 => ∃ n, L_X8_insert_2_212 D d Q n r0 r1 r2 (0 : Int32) h_2) (jth Q)))
theorem w_X8_insert_2_203 {D : JD} {d : Nat} {Q : JO → JH → Prop} {r0 : Nat} {r1 : Nat} {r2 : Nat} {q0 : Nat} {s1 : Int32} {h : JH} (w : W_X8_insert_2_203 D d Q r0 r1 r2 q0 s1 h) : JW D (d + 1) mX8_insert_2 203 [some (vR 41 r0), some (vR 47 r1), some (vR 44 r2), none, none, none] [vI s1, vR 41 q0] h Q := by
  unfold W_X8_insert_2_203 at w
  refine jw_ldcwS (pc' := 206) rfl rfl rfl rfl ?_
  obtain ⟨g_1, w⟩ := w
  refine jw_cV (st := []) (sa := [vR 41 q0, vI s1, vR 51 (jcs D 302)]) okX8_must rfl rfl rfl rfl rfl rfl (jstp_virtual (sa := [vI s1, vR 51 (jcs D 302)]) (st := []) (k := 0) rfl rfl sX8_must okX8_must g_1 (one41.k g_1) rfl rfl) w (fun h_2 _ _ w => ?_)
  refine jw_iconst (pc' := 210) (x := (0 : Int32)) rfl rfl ?_
  refine jw_istore (pc' := 212) (ls' := [some (vR 41 r0), some (vR 47 r1), some (vR 44 r2), none, some (vI (0 : Int32)), none]) rfl (by decide) rfl ?_
  obtain ⟨n, w⟩ := w
  exact l_X8_insert_2_212 n _ _ _ _ _ w
def W_X8_insert_2_165 (D : JD) (d : Nat) (Q : JO → JH → Prop) (K10 : Nat → Nat → Nat → Int32 → Int32 → JH → Prop) (K124 : Nat → Nat → Nat → Int32 → Int32 → Int32 → JH → Prop) (r0 : Nat) (r1 : Nat) (r2 : Nat) (x3 : Int32) (x4 : Int32) (x5 : Int32) (q0 : Nat) (s1 : Int32) (h : JH) : Prop :=
  q0 ≠ 0 ∧ (cX8_must D d q0 s1 (jcs D 328) h (pV D h (fun h_2 => K124 r0 r1 r2 x3 x4 (x5 + (1 : Int32)) h_2) (jth Q)))
theorem w_X8_insert_2_165 {D : JD} {d : Nat} {Q : JO → JH → Prop} {K10 : Nat → Nat → Nat → Int32 → Int32 → JH → Prop} {K124 : Nat → Nat → Nat → Int32 → Int32 → Int32 → JH → Prop} {r0 : Nat} {r1 : Nat} {r2 : Nat} {x3 : Int32} {x4 : Int32} {x5 : Int32} {q0 : Nat} {s1 : Int32} {h : JH} (hK10 : ∀ (r0 : Nat) (r1 : Nat) (r2 : Nat) (x3 : Int32) (x4 : Int32) (h : JH), K10 r0 r1 r2 x3 x4 h → JW D (d + 1) mX8_insert_2 10 [some (vR 41 r0), some (vR 47 r1), some (vR 44 r2), some (vI x3), some (vI x4), none] [] h Q) (hK124 : ∀ (r0 : Nat) (r1 : Nat) (r2 : Nat) (x3 : Int32) (x4 : Int32) (x5 : Int32) (h : JH), K124 r0 r1 r2 x3 x4 x5 h → JW D (d + 1) mX8_insert_2 124 [some (vR 41 r0), some (vR 47 r1), some (vR 44 r2), some (vI x3), some (vI x4), some (vI x5)] [] h Q) (w : W_X8_insert_2_165 D d Q K10 K124 r0 r1 r2 x3 x4 x5 q0 s1 h) : JW D (d + 1) mX8_insert_2 165 [some (vR 41 r0), some (vR 47 r1), some (vR 44 r2), some (vI x3), some (vI x4), some (vI x5)] [vI s1, vR 41 q0] h Q := by
  unfold W_X8_insert_2_165 at w
  refine jw_ldcwS (pc' := 168) rfl rfl rfl rfl ?_
  obtain ⟨g_1, w⟩ := w
  refine jw_cV (st := []) (sa := [vR 41 q0, vI s1, vR 51 (jcs D 328)]) okX8_must rfl rfl rfl rfl rfl rfl (jstp_virtual (sa := [vI s1, vR 51 (jcs D 328)]) (st := []) (k := 0) rfl rfl sX8_must okX8_must g_1 (one41.k g_1) rfl rfl) w (fun h_2 _ _ w => ?_)
  refine jw_iinc (pc' := 174) (y := x5 + (1 : Int32)) (ls' := [some (vR 41 r0), some (vR 47 r1), some (vR 44 r2), some (vI x3), some (vI x4), some (vI (x5 + (1 : Int32)))]) rfl (by decide) rfl rfl rfl ?_
  refine jw_goto (pc' := 124) rfl rfl ?_
  exact hK124 _ _ _ _ _ _ _ w
def W_X8_insert_2_160 (D : JD) (d : Nat) (Q : JO → JH → Prop) (K10 : Nat → Nat → Nat → Int32 → Int32 → JH → Prop) (K124 : Nat → Nat → Nat → Int32 → Int32 → Int32 → JH → Prop) (r0 : Nat) (r1 : Nat) (r2 : Nat) (x3 : Int32) (x4 : Int32) (x5 : Int32) (q0 : Nat) (h : JH) : Prop :=
  W_X8_insert_2_165 D d Q K10 K124 r0 r1 r2 x3 x4 x5 q0 (1 : Int32) h
theorem w_X8_insert_2_160 {D : JD} {d : Nat} {Q : JO → JH → Prop} {K10 : Nat → Nat → Nat → Int32 → Int32 → JH → Prop} {K124 : Nat → Nat → Nat → Int32 → Int32 → Int32 → JH → Prop} {r0 : Nat} {r1 : Nat} {r2 : Nat} {x3 : Int32} {x4 : Int32} {x5 : Int32} {q0 : Nat} {h : JH} (hK10 : ∀ (r0 : Nat) (r1 : Nat) (r2 : Nat) (x3 : Int32) (x4 : Int32) (h : JH), K10 r0 r1 r2 x3 x4 h → JW D (d + 1) mX8_insert_2 10 [some (vR 41 r0), some (vR 47 r1), some (vR 44 r2), some (vI x3), some (vI x4), none] [] h Q) (hK124 : ∀ (r0 : Nat) (r1 : Nat) (r2 : Nat) (x3 : Int32) (x4 : Int32) (x5 : Int32) (h : JH), K124 r0 r1 r2 x3 x4 x5 h → JW D (d + 1) mX8_insert_2 124 [some (vR 41 r0), some (vR 47 r1), some (vR 44 r2), some (vI x3), some (vI x4), some (vI x5)] [] h Q) (w : W_X8_insert_2_160 D d Q K10 K124 r0 r1 r2 x3 x4 x5 q0 h) : JW D (d + 1) mX8_insert_2 160 [some (vR 41 r0), some (vR 47 r1), some (vR 44 r2), some (vI x3), some (vI x4), some (vI x5)] [vR 41 q0] h Q := by
  unfold W_X8_insert_2_160 at w
  refine jw_iconst (pc' := 161) (x := (1 : Int32)) rfl rfl ?_
  refine jw_goto (pc' := 165) rfl rfl ?_
  exact w_X8_insert_2_165 hK10 hK124 w
def W_X8_insert_2_124 (D : JD) (d : Nat) (Q : JO → JH → Prop) (K10 : Nat → Nat → Nat → Int32 → Int32 → JH → Prop) (K124 : Nat → Nat → Nat → Int32 → Int32 → Int32 → JH → Prop) (r0 : Nat) (r1 : Nat) (r2 : Nat) (x3 : Int32) (x4 : Int32) (x5 : Int32) (h : JH) : Prop :=
  r2 ≠ 0 ∧ (((jfi h 250 r2) ≤ x5 → K10 r0 r1 r2 x3 (x4 + (1 : Int32)) h) ∧ (¬ (jfi h 250 r2) ≤ x5 → r0 ≠ 0 ∧ ((jfr h 221 r0) ≠ 0 ∧ jin x4 (jln h (jfr h 221 r0)) ∧ ((jar h (jfr h 221 r0) (ixn x4)) ≠ 0 ∧ jin x5 (jln h (jar h (jfr h 221 r0) (ixn x4))) ∧ ((jar h (jar h (jfr h 221 r0) (ixn x4)) (ixn x5)) ≠ 0 ∧ ((¬ (jfi h 266 (jar h (jar h (jfr h 221 r0) (ixn x4)) (ixn x5))) = 0 → W_X8_insert_2_160 D d Q K10 K124 r0 r1 r2 x3 x4 x5 r0 h) ∧ ((jfi h 266 (jar h (jar h (jfr h 221 r0) (ixn x4)) (ixn x5))) = 0 → (jfr h 253 r2) ≠ 0 ∧ jin x5 (jln h (jfr h 253 r2)) ∧ ((¬ (jai h (jfr h 253 r2) (ixn x5)) = 0 → W_X8_insert_2_165 D d Q K10 K124 r0 r1 r2 x3 x4 x5 r0 (0 : Int32) h) ∧ ((jai h (jfr h 253 r2) (ixn x5)) = 0 → W_X8_insert_2_160 D d Q K10 K124 r0 r1 r2 x3 x4 x5 r0 h)))))))))
theorem w_X8_insert_2_124 {D : JD} {d : Nat} {Q : JO → JH → Prop} {K10 : Nat → Nat → Nat → Int32 → Int32 → JH → Prop} {K124 : Nat → Nat → Nat → Int32 → Int32 → Int32 → JH → Prop} {r0 : Nat} {r1 : Nat} {r2 : Nat} {x3 : Int32} {x4 : Int32} {x5 : Int32} {h : JH} (hK10 : ∀ (r0 : Nat) (r1 : Nat) (r2 : Nat) (x3 : Int32) (x4 : Int32) (h : JH), K10 r0 r1 r2 x3 x4 h → JW D (d + 1) mX8_insert_2 10 [some (vR 41 r0), some (vR 47 r1), some (vR 44 r2), some (vI x3), some (vI x4), none] [] h Q) (hK124 : ∀ (r0 : Nat) (r1 : Nat) (r2 : Nat) (x3 : Int32) (x4 : Int32) (x5 : Int32) (h : JH), K124 r0 r1 r2 x3 x4 x5 h → JW D (d + 1) mX8_insert_2 124 [some (vR 41 r0), some (vR 47 r1), some (vR 44 r2), some (vI x3), some (vI x4), some (vI x5)] [] h Q) (w : W_X8_insert_2_124 D d Q K10 K124 r0 r1 r2 x3 x4 x5 h) : JW D (d + 1) mX8_insert_2 124 [some (vR 41 r0), some (vR 47 r1), some (vR 44 r2), some (vI x3), some (vI x4), some (vI x5)] [] h Q := by
  unfold W_X8_insert_2_124 at w
  refine jw_iload (pc' := 126) rfl rfl ?_
  refine jw_aload_n (pc' := 127) rfl rfl ?_
  obtain ⟨g_1, w⟩ := w
  refine jw_getI (pc' := 130) (F := 250) rfl rfl rfl rfl g_1 ?_
  refine jw_icmp_ge (tgt := 177) (pc' := 133) rfl rfl (fun c_2 => ?_) (fun c_2 => ?_)
  · replace w := w.1 c_2
    refine jw_iinc (pc' := 180) (y := x4 + (1 : Int32)) (ls' := [some (vR 41 r0), some (vR 47 r1), some (vR 44 r2), some (vI x3), some (vI (x4 + (1 : Int32))), some (vI x5)]) rfl (by decide) rfl rfl rfl ?_
    refine jw_goto (pc' := 10) rfl rfl ?_
    refine jw_gen (ls' := [some (vR 41 r0), some (vR 47 r1), some (vR 44 r2), some (vI x3), some (vI (x4 + (1 : Int32))), none]) (st' := []) (And.intro (Or.inl rfl) (And.intro (Or.inl rfl) (And.intro (Or.inl rfl) (And.intro (Or.inl rfl) (And.intro (Or.inl rfl) (trivial)))))) (trivial) ?_
    exact hK10 _ _ _ _ _ _ w
  · replace w := w.2 c_2
    refine jw_aload_n (pc' := 134) rfl rfl ?_
    refine jw_aload_n (pc' := 135) rfl rfl ?_
    obtain ⟨g_3, w⟩ := w
    refine jw_getR (pc' := 138) (F := 221) (t' := 94) rfl rfl rfl rfl rfl g_3 ?_
    refine jw_iload (pc' := 140) rfl rfl ?_
    obtain ⟨g_4, w⟩ := w
    obtain ⟨g_5, w⟩ := w
    refine jw_aald (pc' := 141) (t' := 86) rfl rfl rfl rfl g_4 g_5.ix g_5.2 ?_
    refine jw_iload (pc' := 143) rfl rfl ?_
    obtain ⟨g_6, w⟩ := w
    obtain ⟨g_7, w⟩ := w
    refine jw_aald (pc' := 144) (t' := 46) rfl rfl rfl rfl g_6 g_7.ix g_7.2 ?_
    obtain ⟨g_8, w⟩ := w
    refine jw_getI (pc' := 147) (F := 266) rfl rfl rfl rfl g_8 ?_
    refine jw_if_ne (tgt := 160) (pc' := 150) rfl rfl (fun c_9 => ?_) (fun c_9 => ?_)
    · replace w := w.1 c_9
      exact w_X8_insert_2_160 hK10 hK124 w
    · replace w := w.2 c_9
      refine jw_aload_n (pc' := 151) rfl rfl ?_
      refine jw_getR (pc' := 154) (F := 253) (t' := 190) rfl rfl rfl rfl rfl g_1 ?_
      refine jw_iload (pc' := 156) rfl rfl ?_
      obtain ⟨g_10, w⟩ := w
      obtain ⟨g_11, w⟩ := w
      refine jw_zald (pc' := 157) rfl rfl rfl rfl g_10 g_11.ix g_11.2 ?_
      refine jw_if_ne (tgt := 164) (pc' := 160) rfl rfl (fun c_12 => ?_) (fun c_12 => ?_)
      · replace w := w.1 c_12
        refine jw_iconst (pc' := 165) (x := (0 : Int32)) rfl rfl ?_
        exact w_X8_insert_2_165 hK10 hK124 w
      · replace w := w.2 c_12
        exact w_X8_insert_2_160 hK10 hK124 w
def L_X8_insert_2_124 (D : JD) (d : Nat) (Q : JO → JH → Prop) (K10 : Nat → Nat → Nat → Int32 → Int32 → JH → Prop) : Nat → Nat → Nat → Nat → Int32 → Int32 → Int32 → JH → Prop
  | 0 => fun _ _ _ _ _ _ _ => False
  | n + 1 => fun r0 r1 r2 x3 x4 x5 h => W_X8_insert_2_124 D d Q K10 (L_X8_insert_2_124 D d Q K10 n) r0 r1 r2 x3 x4 x5 h
theorem l_X8_insert_2_124 {D : JD} {d : Nat} {Q : JO → JH → Prop} {K10 : Nat → Nat → Nat → Int32 → Int32 → JH → Prop} (hK10 : ∀ (r0 : Nat) (r1 : Nat) (r2 : Nat) (x3 : Int32) (x4 : Int32) (h : JH), K10 r0 r1 r2 x3 x4 h → JW D (d + 1) mX8_insert_2 10 [some (vR 41 r0), some (vR 47 r1), some (vR 44 r2), some (vI x3), some (vI x4), none] [] h Q) : ∀ (n : Nat) (r0 : Nat) (r1 : Nat) (r2 : Nat) (x3 : Int32) (x4 : Int32) (x5 : Int32) (h : JH), L_X8_insert_2_124 D d Q K10 n r0 r1 r2 x3 x4 x5 h → JW D (d + 1) mX8_insert_2 124 [some (vR 41 r0), some (vR 47 r1), some (vR 44 r2), some (vI x3), some (vI x4), some (vI x5)] [] h Q := by
  intro n
  induction n with
  | zero => intro _ _ _ _ _ _ _ w; exact w.elim
  | succ n ih => intro _ _ _ _ _ _ h w; exact w_X8_insert_2_124 hK10 ih w
def W_X8_insert_2_97 (D : JD) (d : Nat) (Q : JO → JH → Prop) (K10 : Nat → Nat → Nat → Int32 → Int32 → JH → Prop) (K56 : Nat → Nat → Nat → Int32 → Int32 → Int32 → JH → Prop) (r0 : Nat) (r1 : Nat) (r2 : Nat) (x3 : Int32) (x4 : Int32) (x5 : Int32) (q0 : Nat) (s1 : Int32) (h : JH) : Prop :=
  r1 ≠ 0 ∧ ((jfr h 278 r1) ≠ 0 ∧ jin x3 (jln h (jfr h 278 r1)) ∧ (r0 ≠ 0 ∧ (cX8_eval D d r0 (jar h (jfr h 278 r1) (ixn x3)) h (pR D h 46 (fun v_7 h_5 => cX8_copy D d r0 v_7 h_5 (pR D h_5 46 (fun v_10 h_8 => q0 ≠ 0 ∧ jin s1 (jln h_8 q0) ∧ ∀ h_13 : JH, h_13 = war h_8 q0 (ixn s1) v_10 → (K56 r0 r1 r2 (x3 + (1 : Int32)) x4 (x5 + (1 : Int32)) h_13)) (jth Q))) (jth Q)))))
theorem w_X8_insert_2_97 {D : JD} {d : Nat} {Q : JO → JH → Prop} {K10 : Nat → Nat → Nat → Int32 → Int32 → JH → Prop} {K56 : Nat → Nat → Nat → Int32 → Int32 → Int32 → JH → Prop} {r0 : Nat} {r1 : Nat} {r2 : Nat} {x3 : Int32} {x4 : Int32} {x5 : Int32} {q0 : Nat} {s1 : Int32} {h : JH} (hK10 : ∀ (r0 : Nat) (r1 : Nat) (r2 : Nat) (x3 : Int32) (x4 : Int32) (h : JH), K10 r0 r1 r2 x3 x4 h → JW D (d + 1) mX8_insert_2 10 [some (vR 41 r0), some (vR 47 r1), some (vR 44 r2), some (vI x3), some (vI x4), none] [] h Q) (hK56 : ∀ (r0 : Nat) (r1 : Nat) (r2 : Nat) (x3 : Int32) (x4 : Int32) (x5 : Int32) (h : JH), K56 r0 r1 r2 x3 x4 x5 h → JW D (d + 1) mX8_insert_2 56 [some (vR 41 r0), some (vR 47 r1), some (vR 44 r2), some (vI x3), some (vI x4), some (vI x5)] [] h Q) (w : W_X8_insert_2_97 D d Q K10 K56 r0 r1 r2 x3 x4 x5 q0 s1 h) : JW D (d + 1) mX8_insert_2 97 [some (vR 41 r0), some (vR 47 r1), some (vR 44 r2), some (vI x3), some (vI x4), some (vI x5)] [vI s1, vR 86 q0] h Q := by
  unfold W_X8_insert_2_97 at w
  refine jw_aload_n (pc' := 98) rfl rfl ?_
  refine jw_aload_n (pc' := 99) rfl rfl ?_
  refine jw_aload_n (pc' := 100) rfl rfl ?_
  obtain ⟨g_1, w⟩ := w
  refine jw_getR (pc' := 103) (F := 278) (t' := 202) rfl rfl rfl rfl rfl g_1 ?_
  refine jw_iload_n (pc' := 104) rfl rfl ?_
  obtain ⟨g_2, w⟩ := w
  obtain ⟨g_3, w⟩ := w
  refine jw_aald (pc' := 105) (t' := 48) rfl rfl rfl rfl g_2 g_3.ix g_3.2 ?_
  obtain ⟨g_4, w⟩ := w
  refine jw_cR (st := [vR 41 r0, vI s1, vR 86 q0]) (sa := [vR 41 r0, vR 48 (jar h (jfr h 278 r1) (ixn x3))]) okX8_eval rfl rfl rfl rfl rfl rfl (jstp_virtual (sa := [vR 48 (jar h (jfr h 278 r1) (ixn x3))]) (st := [vR 41 r0, vI s1, vR 86 q0]) (k := 0) rfl rfl sX8_eval okX8_eval g_4 (one41.k g_4) rfl rfl) w (fun v_7 h_5 _ _ _ w => ?_)
  refine jw_cR (st := [vI s1, vR 86 q0]) (sa := [vR 41 r0, vR 46 v_7]) okX8_copy rfl rfl rfl rfl rfl rfl (jstp_virtual (sa := [vR 46 v_7]) (st := [vI s1, vR 86 q0]) (k := 0) rfl rfl sX8_copy okX8_copy g_4 (one41.k g_4) rfl rfl) w (fun v_10 h_8 _ _ _ w => ?_)
  obtain ⟨g_11, w⟩ := w
  obtain ⟨g_12, w⟩ := w
  refine jw_aast' (pc' := 112) rfl rfl rfl rfl rfl rfl g_11 g_12 (fun h_13 e_14 => ?_)
  replace w := w h_13 e_14
  refine jw_iinc (pc' := 115) (y := x3 + (1 : Int32)) (ls' := [some (vR 41 r0), some (vR 47 r1), some (vR 44 r2), some (vI (x3 + (1 : Int32))), some (vI x4), some (vI x5)]) rfl (by decide) rfl rfl rfl ?_
  refine jw_iinc (pc' := 118) (y := x5 + (1 : Int32)) (ls' := [some (vR 41 r0), some (vR 47 r1), some (vR 44 r2), some (vI (x3 + (1 : Int32))), some (vI x4), some (vI (x5 + (1 : Int32)))]) rfl (by decide) rfl rfl rfl ?_
  refine jw_goto (pc' := 56) rfl rfl ?_
  exact hK56 _ _ _ _ _ _ _ w
def W_X8_insert_2_56 (D : JD) (d : Nat) (Q : JO → JH → Prop) (K10 : Nat → Nat → Nat → Int32 → Int32 → JH → Prop) (K56 : Nat → Nat → Nat → Int32 → Int32 → Int32 → JH → Prop) (r0 : Nat) (r1 : Nat) (r2 : Nat) (x3 : Int32) (x4 : Int32) (x5 : Int32) (h : JH) : Prop :=
  r1 ≠ 0 ∧ ((jfr h 280 r1) ≠ 0 ∧ jin x4 (jln h (jfr h 280 r1)) ∧ (((jai h (jfr h 280 r1) (ixn x4)) ≤ x3 → ∃ n, L_X8_insert_2_124 D d Q K10 n r0 r1 r2 x3 x4 (0 : Int32) h) ∧ (¬ (jai h (jfr h 280 r1) (ixn x4)) ≤ x3 → r0 ≠ 0 ∧ ((jfr h 221 r0) ≠ 0 ∧ jin x4 (jln h (jfr h 221 r0)) ∧ (((jfi h 277 r1) = 0 → W_X8_insert_2_97 D d Q K10 K56 r0 r1 r2 x3 x4 x5 (jar h (jfr h 221 r0) (ixn x4)) x5 h) ∧ (¬ (jfi h 277 r1) = 0 → (jfr h 272 r1) ≠ 0 ∧ jin x5 (jln h (jfr h 272 r1)) ∧ (r2 ≠ 0 ∧ (cX11_find D d r2 (jar h (jfr h 272 r1) (ixn x5)) h (pI D h (fun v_14 h_12 => W_X8_insert_2_97 D d Q K10 K56 r0 r1 r2 x3 x4 x5 (jar h (jfr h 221 r0) (ixn x4)) v_14 h_12) (jth Q))))))))))
theorem w_X8_insert_2_56 {D : JD} {d : Nat} {Q : JO → JH → Prop} {K10 : Nat → Nat → Nat → Int32 → Int32 → JH → Prop} {K56 : Nat → Nat → Nat → Int32 → Int32 → Int32 → JH → Prop} {r0 : Nat} {r1 : Nat} {r2 : Nat} {x3 : Int32} {x4 : Int32} {x5 : Int32} {h : JH} (hK10 : ∀ (r0 : Nat) (r1 : Nat) (r2 : Nat) (x3 : Int32) (x4 : Int32) (h : JH), K10 r0 r1 r2 x3 x4 h → JW D (d + 1) mX8_insert_2 10 [some (vR 41 r0), some (vR 47 r1), some (vR 44 r2), some (vI x3), some (vI x4), none] [] h Q) (hK56 : ∀ (r0 : Nat) (r1 : Nat) (r2 : Nat) (x3 : Int32) (x4 : Int32) (x5 : Int32) (h : JH), K56 r0 r1 r2 x3 x4 x5 h → JW D (d + 1) mX8_insert_2 56 [some (vR 41 r0), some (vR 47 r1), some (vR 44 r2), some (vI x3), some (vI x4), some (vI x5)] [] h Q) (w : W_X8_insert_2_56 D d Q K10 K56 r0 r1 r2 x3 x4 x5 h) : JW D (d + 1) mX8_insert_2 56 [some (vR 41 r0), some (vR 47 r1), some (vR 44 r2), some (vI x3), some (vI x4), some (vI x5)] [] h Q := by
  unfold W_X8_insert_2_56 at w
  refine jw_iload_n (pc' := 57) rfl rfl ?_
  refine jw_aload_n (pc' := 58) rfl rfl ?_
  obtain ⟨g_1, w⟩ := w
  refine jw_getR (pc' := 61) (F := 280) (t' := 203) rfl rfl rfl rfl rfl g_1 ?_
  refine jw_iload (pc' := 63) rfl rfl ?_
  obtain ⟨g_2, w⟩ := w
  obtain ⟨g_3, w⟩ := w
  refine jw_iald (pc' := 64) rfl rfl rfl rfl g_2 g_3.ix g_3.2 ?_
  refine jw_icmp_ge (tgt := 121) (pc' := 67) rfl rfl (fun c_4 => ?_) (fun c_4 => ?_)
  · replace w := w.1 c_4
    refine jw_iconst (pc' := 122) (x := (0 : Int32)) rfl rfl ?_
    refine jw_istore (pc' := 124) (ls' := [some (vR 41 r0), some (vR 47 r1), some (vR 44 r2), some (vI x3), some (vI x4), some (vI (0 : Int32))]) rfl (by decide) rfl ?_
    obtain ⟨n, w⟩ := w
    exact l_X8_insert_2_124 hK10 n _ _ _ _ _ _ _ w
  · replace w := w.2 c_4
    refine jw_aload_n (pc' := 68) rfl rfl ?_
    obtain ⟨g_5, w⟩ := w
    refine jw_getR (pc' := 71) (F := 221) (t' := 94) rfl rfl rfl rfl rfl g_5 ?_
    refine jw_iload (pc' := 73) rfl rfl ?_
    obtain ⟨g_6, w⟩ := w
    obtain ⟨g_7, w⟩ := w
    refine jw_aald (pc' := 74) (t' := 86) rfl rfl rfl rfl g_6 g_7.ix g_7.2 ?_
    refine jw_aload_n (pc' := 75) rfl rfl ?_
    refine jw_getI (pc' := 78) (F := 277) rfl rfl rfl rfl g_1 ?_
    refine jw_if_eq (tgt := 95) (pc' := 81) rfl rfl (fun c_8 => ?_) (fun c_8 => ?_)
    · replace w := w.1 c_8
      refine jw_iload (pc' := 97) rfl rfl ?_
      exact w_X8_insert_2_97 hK10 hK56 w
    · replace w := w.2 c_8
      refine jw_aload_n (pc' := 82) rfl rfl ?_
      refine jw_aload_n (pc' := 83) rfl rfl ?_
      refine jw_getR (pc' := 86) (F := 272) (t' := 198) rfl rfl rfl rfl rfl g_1 ?_
      refine jw_iload (pc' := 88) rfl rfl ?_
      obtain ⟨g_9, w⟩ := w
      obtain ⟨g_10, w⟩ := w
      refine jw_aald (pc' := 89) (t' := 64) rfl rfl rfl rfl g_9 g_10.ix g_10.2 ?_
      obtain ⟨g_11, w⟩ := w
      refine jw_cI (st := [vR 86 (jar h (jfr h 221 r0) (ixn x4))]) (sa := [vR 44 r2, vR 64 (jar h (jfr h 272 r1) (ixn x5))]) okX11_find rfl rfl rfl rfl rfl rfl (jstp_virtual (sa := [vR 64 (jar h (jfr h 272 r1) (ixn x5))]) (st := [vR 86 (jar h (jfr h 221 r0) (ixn x4))]) (k := 0) rfl rfl sX11_find okX11_find g_11 (one44.k g_11) rfl rfl) w (fun v_14 h_12 _ _ w => ?_)
      refine jw_goto (pc' := 97) rfl rfl ?_
      exact w_X8_insert_2_97 hK10 hK56 w
def L_X8_insert_2_56 (D : JD) (d : Nat) (Q : JO → JH → Prop) (K10 : Nat → Nat → Nat → Int32 → Int32 → JH → Prop) : Nat → Nat → Nat → Nat → Int32 → Int32 → Int32 → JH → Prop
  | 0 => fun _ _ _ _ _ _ _ => False
  | n + 1 => fun r0 r1 r2 x3 x4 x5 h => W_X8_insert_2_56 D d Q K10 (L_X8_insert_2_56 D d Q K10 n) r0 r1 r2 x3 x4 x5 h
theorem l_X8_insert_2_56 {D : JD} {d : Nat} {Q : JO → JH → Prop} {K10 : Nat → Nat → Nat → Int32 → Int32 → JH → Prop} (hK10 : ∀ (r0 : Nat) (r1 : Nat) (r2 : Nat) (x3 : Int32) (x4 : Int32) (h : JH), K10 r0 r1 r2 x3 x4 h → JW D (d + 1) mX8_insert_2 10 [some (vR 41 r0), some (vR 47 r1), some (vR 44 r2), some (vI x3), some (vI x4), none] [] h Q) : ∀ (n : Nat) (r0 : Nat) (r1 : Nat) (r2 : Nat) (x3 : Int32) (x4 : Int32) (x5 : Int32) (h : JH), L_X8_insert_2_56 D d Q K10 n r0 r1 r2 x3 x4 x5 h → JW D (d + 1) mX8_insert_2 56 [some (vR 41 r0), some (vR 47 r1), some (vR 44 r2), some (vI x3), some (vI x4), some (vI x5)] [] h Q := by
  intro n
  induction n with
  | zero => intro _ _ _ _ _ _ _ w; exact w.elim
  | succ n ih => intro _ _ _ _ _ _ h w; exact w_X8_insert_2_56 hK10 ih w
def W_X8_insert_2_22 (D : JD) (d : Nat) (Q : JO → JH → Prop) (K10 : Nat → Nat → Nat → Int32 → Int32 → JH → Prop) (K22 : Nat → Nat → Nat → Int32 → Int32 → Int32 → JH → Prop) (r0 : Nat) (r1 : Nat) (r2 : Nat) (x3 : Int32) (x4 : Int32) (x5 : Int32) (h : JH) : Prop :=
  r2 ≠ 0 ∧ (((jfi h 250 r2) ≤ x5 → ∃ n, L_X8_insert_2_56 D d Q K10 n r0 r1 r2 x3 x4 (0 : Int32) h) ∧ (¬ (jfi h 250 r2) ≤ x5 → r0 ≠ 0 ∧ ((jfr h 221 r0) ≠ 0 ∧ jin x4 (jln h (jfr h 221 r0)) ∧ (cX8_value D d r0 (0 : Int32) (0 : Int64) h (pR D h 46 (fun v_8 h_6 => (jar h (jfr h 221 r0) (ixn x4)) ≠ 0 ∧ jin x5 (jln h_6 (jar h (jfr h 221 r0) (ixn x4))) ∧ ∀ h_11 : JH, h_11 = war h_6 (jar h (jfr h 221 r0) (ixn x4)) (ixn x5) v_8 → (K22 r0 r1 r2 x3 x4 (x5 + (1 : Int32)) h_11)) (jth Q))))))
theorem w_X8_insert_2_22 {D : JD} {d : Nat} {Q : JO → JH → Prop} {K10 : Nat → Nat → Nat → Int32 → Int32 → JH → Prop} {K22 : Nat → Nat → Nat → Int32 → Int32 → Int32 → JH → Prop} {r0 : Nat} {r1 : Nat} {r2 : Nat} {x3 : Int32} {x4 : Int32} {x5 : Int32} {h : JH} (hK10 : ∀ (r0 : Nat) (r1 : Nat) (r2 : Nat) (x3 : Int32) (x4 : Int32) (h : JH), K10 r0 r1 r2 x3 x4 h → JW D (d + 1) mX8_insert_2 10 [some (vR 41 r0), some (vR 47 r1), some (vR 44 r2), some (vI x3), some (vI x4), none] [] h Q) (hK22 : ∀ (r0 : Nat) (r1 : Nat) (r2 : Nat) (x3 : Int32) (x4 : Int32) (x5 : Int32) (h : JH), K22 r0 r1 r2 x3 x4 x5 h → JW D (d + 1) mX8_insert_2 22 [some (vR 41 r0), some (vR 47 r1), some (vR 44 r2), some (vI x3), some (vI x4), some (vI x5)] [] h Q) (w : W_X8_insert_2_22 D d Q K10 K22 r0 r1 r2 x3 x4 x5 h) : JW D (d + 1) mX8_insert_2 22 [some (vR 41 r0), some (vR 47 r1), some (vR 44 r2), some (vI x3), some (vI x4), some (vI x5)] [] h Q := by
  unfold W_X8_insert_2_22 at w
  refine jw_iload (pc' := 24) rfl rfl ?_
  refine jw_aload_n (pc' := 25) rfl rfl ?_
  obtain ⟨g_1, w⟩ := w
  refine jw_getI (pc' := 28) (F := 250) rfl rfl rfl rfl g_1 ?_
  refine jw_icmp_ge (tgt := 53) (pc' := 31) rfl rfl (fun c_2 => ?_) (fun c_2 => ?_)
  · replace w := w.1 c_2
    refine jw_iconst (pc' := 54) (x := (0 : Int32)) rfl rfl ?_
    refine jw_istore (pc' := 56) (ls' := [some (vR 41 r0), some (vR 47 r1), some (vR 44 r2), some (vI x3), some (vI x4), some (vI (0 : Int32))]) rfl (by decide) rfl ?_
    obtain ⟨n, w⟩ := w
    exact l_X8_insert_2_56 hK10 n _ _ _ _ _ _ _ w
  · replace w := w.2 c_2
    refine jw_aload_n (pc' := 32) rfl rfl ?_
    obtain ⟨g_3, w⟩ := w
    refine jw_getR (pc' := 35) (F := 221) (t' := 94) rfl rfl rfl rfl rfl g_3 ?_
    refine jw_iload (pc' := 37) rfl rfl ?_
    obtain ⟨g_4, w⟩ := w
    obtain ⟨g_5, w⟩ := w
    refine jw_aald (pc' := 38) (t' := 86) rfl rfl rfl rfl g_4 g_5.ix g_5.2 ?_
    refine jw_iload (pc' := 40) rfl rfl ?_
    refine jw_aload_n (pc' := 41) rfl rfl ?_
    refine jw_iconst (pc' := 42) (x := (0 : Int32)) rfl rfl ?_
    refine jw_lconst (pc' := 43) (x := (0 : Int64)) rfl rfl ?_
    refine jw_cR (st := [vI x5, vR 86 (jar h (jfr h 221 r0) (ixn x4))]) (sa := [vR 41 r0, vI (0 : Int32), vL (0 : Int64)]) okX8_value rfl rfl rfl rfl rfl rfl (jstp_virtual (sa := [vI (0 : Int32), vL (0 : Int64)]) (st := [vI x5, vR 86 (jar h (jfr h 221 r0) (ixn x4))]) (k := 0) rfl rfl sX8_value okX8_value g_3 (one41.k g_3) rfl rfl) w (fun v_8 h_6 _ _ _ w => ?_)
    obtain ⟨g_9, w⟩ := w
    obtain ⟨g_10, w⟩ := w
    refine jw_aast' (pc' := 47) rfl rfl rfl rfl rfl rfl g_9 g_10 (fun h_11 e_12 => ?_)
    replace w := w h_11 e_12
    refine jw_iinc (pc' := 50) (y := x5 + (1 : Int32)) (ls' := [some (vR 41 r0), some (vR 47 r1), some (vR 44 r2), some (vI x3), some (vI x4), some (vI (x5 + (1 : Int32)))]) rfl (by decide) rfl rfl rfl ?_
    refine jw_goto (pc' := 22) rfl rfl ?_
    exact hK22 _ _ _ _ _ _ _ w
def L_X8_insert_2_22 (D : JD) (d : Nat) (Q : JO → JH → Prop) (K10 : Nat → Nat → Nat → Int32 → Int32 → JH → Prop) : Nat → Nat → Nat → Nat → Int32 → Int32 → Int32 → JH → Prop
  | 0 => fun _ _ _ _ _ _ _ => False
  | n + 1 => fun r0 r1 r2 x3 x4 x5 h => W_X8_insert_2_22 D d Q K10 (L_X8_insert_2_22 D d Q K10 n) r0 r1 r2 x3 x4 x5 h
theorem l_X8_insert_2_22 {D : JD} {d : Nat} {Q : JO → JH → Prop} {K10 : Nat → Nat → Nat → Int32 → Int32 → JH → Prop} (hK10 : ∀ (r0 : Nat) (r1 : Nat) (r2 : Nat) (x3 : Int32) (x4 : Int32) (h : JH), K10 r0 r1 r2 x3 x4 h → JW D (d + 1) mX8_insert_2 10 [some (vR 41 r0), some (vR 47 r1), some (vR 44 r2), some (vI x3), some (vI x4), none] [] h Q) : ∀ (n : Nat) (r0 : Nat) (r1 : Nat) (r2 : Nat) (x3 : Int32) (x4 : Int32) (x5 : Int32) (h : JH), L_X8_insert_2_22 D d Q K10 n r0 r1 r2 x3 x4 x5 h → JW D (d + 1) mX8_insert_2 22 [some (vR 41 r0), some (vR 47 r1), some (vR 44 r2), some (vI x3), some (vI x4), some (vI x5)] [] h Q := by
  intro n
  induction n with
  | zero => intro _ _ _ _ _ _ _ w; exact w.elim
  | succ n ih => intro _ _ _ _ _ _ h w; exact w_X8_insert_2_22 hK10 ih w
def W_X8_insert_2_10 (D : JD) (d : Nat) (Q : JO → JH → Prop) (K10 : Nat → Nat → Nat → Int32 → Int32 → JH → Prop) (r0 : Nat) (r1 : Nat) (r2 : Nat) (x3 : Int32) (x4 : Int32) (h : JH) : Prop :=
  r1 ≠ 0 ∧ (((jfi h 281 r1) ≤ x4 → r2 ≠ 0 ∧ (((100 : Int32) < ((jfi h 255 r2) + (jfi h 281 r1)) → W_X8_insert_2_203 D d Q r0 r1 r2 r0 (0 : Int32) h) ∧ (¬ (100 : Int32) < ((jfi h 255 r2) + (jfi h 281 r1)) → W_X8_insert_2_203 D d Q r0 r1 r2 r0 (1 : Int32) h))) ∧ (¬ (jfi h 281 r1) ≤ x4 → ∃ n, L_X8_insert_2_22 D d Q K10 n r0 r1 r2 x3 x4 (0 : Int32) h))
theorem w_X8_insert_2_10 {D : JD} {d : Nat} {Q : JO → JH → Prop} {K10 : Nat → Nat → Nat → Int32 → Int32 → JH → Prop} {r0 : Nat} {r1 : Nat} {r2 : Nat} {x3 : Int32} {x4 : Int32} {h : JH} (hK10 : ∀ (r0 : Nat) (r1 : Nat) (r2 : Nat) (x3 : Int32) (x4 : Int32) (h : JH), K10 r0 r1 r2 x3 x4 h → JW D (d + 1) mX8_insert_2 10 [some (vR 41 r0), some (vR 47 r1), some (vR 44 r2), some (vI x3), some (vI x4), none] [] h Q) (w : W_X8_insert_2_10 D d Q K10 r0 r1 r2 x3 x4 h) : JW D (d + 1) mX8_insert_2 10 [some (vR 41 r0), some (vR 47 r1), some (vR 44 r2), some (vI x3), some (vI x4), none] [] h Q := by
  unfold W_X8_insert_2_10 at w
  refine jw_iload (pc' := 12) rfl rfl ?_
  refine jw_aload_n (pc' := 13) rfl rfl ?_
  obtain ⟨g_1, w⟩ := w
  refine jw_getI (pc' := 16) (F := 281) rfl rfl rfl rfl g_1 ?_
  refine jw_icmp_ge (tgt := 183) (pc' := 19) rfl rfl (fun c_2 => ?_) (fun c_2 => ?_)
  · replace w := w.1 c_2
    refine jw_aload_n (pc' := 184) rfl rfl ?_
    refine jw_aload_n (pc' := 185) rfl rfl ?_
    obtain ⟨g_3, w⟩ := w
    refine jw_getI (pc' := 188) (F := 255) rfl rfl rfl rfl g_3 ?_
    refine jw_aload_n (pc' := 189) rfl rfl ?_
    refine jw_getI (pc' := 192) (F := 281) rfl rfl rfl rfl g_1 ?_
    refine jw_iadd (pc' := 193) rfl ?_
    refine jw_bipush (pc' := 195) (x := (100 : Int32)) rfl rfl ?_
    refine jw_icmp_gt (tgt := 202) (pc' := 198) rfl rfl (fun c_4 => ?_) (fun c_4 => ?_)
    · replace w := w.1 c_4
      refine jw_iconst (pc' := 203) (x := (0 : Int32)) rfl rfl ?_
      refine jw_gen (ls' := [some (vR 41 r0), some (vR 47 r1), some (vR 44 r2), none, none, none]) (st' := [vI (0 : Int32), vR 41 r0]) (And.intro (Or.inl rfl) (And.intro (Or.inl rfl) (And.intro (Or.inl rfl) (trivial)))) (And.intro (Or.inl rfl) (And.intro (Or.inl rfl) (trivial))) ?_
      exact w_X8_insert_2_203 w
    · replace w := w.2 c_4
      refine jw_iconst (pc' := 199) (x := (1 : Int32)) rfl rfl ?_
      refine jw_goto (pc' := 203) rfl rfl ?_
      refine jw_gen (ls' := [some (vR 41 r0), some (vR 47 r1), some (vR 44 r2), none, none, none]) (st' := [vI (1 : Int32), vR 41 r0]) (And.intro (Or.inl rfl) (And.intro (Or.inl rfl) (And.intro (Or.inl rfl) (trivial)))) (And.intro (Or.inl rfl) (And.intro (Or.inl rfl) (trivial))) ?_
      exact w_X8_insert_2_203 w
  · replace w := w.2 c_2
    refine jw_iconst (pc' := 20) (x := (0 : Int32)) rfl rfl ?_
    refine jw_istore (pc' := 22) (ls' := [some (vR 41 r0), some (vR 47 r1), some (vR 44 r2), some (vI x3), some (vI x4), some (vI (0 : Int32))]) rfl (by decide) rfl ?_
    obtain ⟨n, w⟩ := w
    exact l_X8_insert_2_22 hK10 n _ _ _ _ _ _ _ w
def L_X8_insert_2_10 (D : JD) (d : Nat) (Q : JO → JH → Prop) : Nat → Nat → Nat → Nat → Int32 → Int32 → JH → Prop
  | 0 => fun _ _ _ _ _ _ => False
  | n + 1 => fun r0 r1 r2 x3 x4 h => W_X8_insert_2_10 D d Q (L_X8_insert_2_10 D d Q n) r0 r1 r2 x3 x4 h
theorem l_X8_insert_2_10 {D : JD} {d : Nat} {Q : JO → JH → Prop} : ∀ (n : Nat) (r0 : Nat) (r1 : Nat) (r2 : Nat) (x3 : Int32) (x4 : Int32) (h : JH), L_X8_insert_2_10 D d Q n r0 r1 r2 x3 x4 h → JW D (d + 1) mX8_insert_2 10 [some (vR 41 r0), some (vR 47 r1), some (vR 44 r2), some (vI x3), some (vI x4), none] [] h Q := by
  intro n
  induction n with
  | zero => intro _ _ _ _ _ _ w; exact w.elim
  | succ n ih => intro _ _ _ _ _ h w; exact w_X8_insert_2_10 ih w
def W_X8_insert_2_0 (D : JD) (d : Nat) (Q : JO → JH → Prop) (r0 : Nat) (r1 : Nat) (r2 : Nat) (h : JH) : Prop :=
  r0 ≠ 0 ∧ ∀ h_2 : JH, h_2 = wfi h 177 r0 (0 : Int32) → (∃ n, L_X8_insert_2_10 D d Q n r0 r1 r2 (0 : Int32) (0 : Int32) h_2)
theorem w_X8_insert_2_0 {D : JD} {d : Nat} {Q : JO → JH → Prop} {r0 : Nat} {r1 : Nat} {r2 : Nat} {h : JH} (w : W_X8_insert_2_0 D d Q r0 r1 r2 h) : JW D (d + 1) mX8_insert_2 0 [some (vR 41 r0), some (vR 47 r1), some (vR 44 r2), none, none, none] [] h Q := by
  unfold W_X8_insert_2_0 at w
  refine jw_iconst (pc' := 1) (x := (0 : Int32)) rfl rfl ?_
  refine jw_istore_n (pc' := 2) (ls' := [some (vR 41 r0), some (vR 47 r1), some (vR 44 r2), some (vI (0 : Int32)), none, none]) rfl (by decide) rfl ?_
  refine jw_aload_n (pc' := 3) rfl rfl ?_
  refine jw_iconst (pc' := 4) (x := (0 : Int32)) rfl rfl ?_
  obtain ⟨g_1, w⟩ := w
  refine jw_putI' (pc' := 7) (F := 177) rfl rfl rfl (Or.inr rfl) (Or.inl rfl) rfl (rfl) (rfl) rfl g_1 (fun h_2 e_3 => ?_)
  replace w := w h_2 e_3
  refine jw_iconst (pc' := 8) (x := (0 : Int32)) rfl rfl ?_
  refine jw_istore (pc' := 10) (ls' := [some (vR 41 r0), some (vR 47 r1), some (vR 44 r2), some (vI (0 : Int32)), some (vI (0 : Int32)), none]) rfl (by decide) rfl ?_
  obtain ⟨n, w⟩ := w
  exact l_X8_insert_2_10 n _ _ _ _ _ _ w
def T_X8_insert_2 (D : JD) (d : Nat) (Q : JO → JH → Prop) (r0 : Nat) (r1 : Nat) (r2 : Nat) (h : JH) : Prop := W_X8_insert_2_0 D d Q r0 r1 r2 h
theorem t_X8_insert_2 {D : JD} {d : Nat} {Q : JO → JH → Prop} {r0 : Nat} {r1 : Nat} {r2 : Nat} {h : JH} (w : T_X8_insert_2 D d Q r0 r1 r2 h) : cX8_insert_2 D (d + 1) r0 r1 r2 h Q := by
  unfold T_X8_insert_2 at w
  unfold cX8_insert_2
  exact w_X8_insert_2_0 w
def W_X8_value_87 (D : JD) (d : Nat) (Q : JO → JH → Prop) (r0 : Nat) (x1 : Int32) (y2 : Int64) (h : JH) : Prop :=
  r0 ≠ 0 ∧ ((jfr h 176 r0) ≠ 0 ∧ jin (jfi h 177 r0) (jln h (jfr h 176 r0)) ∧ (∀ h_4 : JH, h_4 = wfi h 177 r0 ((jfi h 177 r0) + (1 : Int32)) → ((jar h (jfr h 176 r0) (ixn (jfi h 177 r0))) ≠ 0 ∧ ∀ h_7 : JH, h_7 = wfi h_4 266 (jar h (jfr h 176 r0) (ixn (jfi h 177 r0))) x1 → (∀ h_9 : JH, h_9 = wfl h_7 267 (jar h (jfr h 176 r0) (ixn (jfi h 177 r0))) y2 → (∀ h_11 : JH, h_11 = wfi h_9 268 (jar h (jfr h 176 r0) (ixn (jfi h 177 r0))) (0 : Int32) → (Q (.inl (some (vR 46 (jar h (jfr h 176 r0) (ixn (jfi h 177 r0)))))) h_11))))))
theorem w_X8_value_87 {D : JD} {d : Nat} {Q : JO → JH → Prop} {r0 : Nat} {x1 : Int32} {y2 : Int64} {h : JH} (w : W_X8_value_87 D d Q r0 x1 y2 h) : JW D (d + 1) mX8_value 87 [some (vR 41 r0), some (vI x1), some (vL y2), none, none, none] [] h Q := by
  unfold W_X8_value_87 at w
  refine jw_aload_n (pc' := 88) rfl rfl ?_
  obtain ⟨g_1, w⟩ := w
  refine jw_getR (pc' := 91) (F := 176) (t' := 163) rfl rfl rfl rfl rfl g_1 ?_
  refine jw_aload_n (pc' := 92) rfl rfl ?_
  refine jw_getI (pc' := 95) (F := 177) rfl rfl rfl rfl g_1 ?_
  obtain ⟨g_2, w⟩ := w
  obtain ⟨g_3, w⟩ := w
  refine jw_aald (pc' := 96) (t' := 46) rfl rfl rfl rfl g_2 g_3.ix g_3.2 ?_
  refine jw_astore (pc' := 98) (ls' := [some (vR 41 r0), some (vI x1), some (vL y2), none, some (vR 46 (jar h (jfr h 176 r0) (ixn (jfi h 177 r0)))), none]) rfl (by decide) rfl ?_
  refine jw_aload_n (pc' := 99) rfl rfl ?_
  refine jw_dup (pc' := 100) rfl rfl ?_
  refine jw_getI (pc' := 103) (F := 177) rfl rfl rfl rfl g_1 ?_
  refine jw_iconst (pc' := 104) (x := (1 : Int32)) rfl rfl ?_
  refine jw_iadd (pc' := 105) rfl ?_
  refine jw_putI' (pc' := 108) (F := 177) rfl rfl rfl (Or.inr rfl) (Or.inl rfl) rfl (rfl) (rfl) rfl g_1 (fun h_4 e_5 => ?_)
  replace w := w h_4 e_5
  refine jw_aload (pc' := 110) rfl rfl ?_
  refine jw_iload_n (pc' := 111) rfl rfl ?_
  obtain ⟨g_6, w⟩ := w
  refine jw_putI' (pc' := 114) (F := 266) rfl rfl rfl (Or.inr rfl) (Or.inl rfl) rfl (rfl) (rfl) rfl g_6 (fun h_7 e_8 => ?_)
  replace w := w h_7 e_8
  refine jw_aload (pc' := 116) rfl rfl ?_
  refine jw_lload_n (pc' := 117) rfl rfl ?_
  refine jw_putL' (pc' := 120) (F := 267) rfl rfl rfl (Or.inr rfl) (Or.inl rfl) rfl rfl rfl g_6 (fun h_9 e_10 => ?_)
  replace w := w h_9 e_10
  refine jw_aload (pc' := 122) rfl rfl ?_
  refine jw_iconst (pc' := 123) (x := (0 : Int32)) rfl rfl ?_
  refine jw_putI' (pc' := 126) (F := 268) rfl rfl rfl (Or.inr rfl) (Or.inl rfl) rfl (rfl) (rfl) rfl g_6 (fun h_11 e_12 => ?_)
  replace w := w h_11 e_12
  refine jw_aload (pc' := 128) rfl rfl ?_
  exact jw_areturn rfl rfl rfl rfl rfl w
def W_X8_value_59 (D : JD) (d : Nat) (Q : JO → JH → Prop) (r0 : Nat) (x1 : Int32) (y2 : Int64) (h : JH) : Prop :=
  r0 ≠ 0 ∧ ((jfr h 176 r0) ≠ 0 ∧ jin (jfi h 177 r0) (jln h (jfr h 176 r0)) ∧ (((jar h (jfr h 176 r0) (ixn (jfi h 177 r0))) ≠ 0 → W_X8_value_87 D d Q r0 x1 y2 h) ∧ ((jar h (jfr h 176 r0) (ixn (jfi h 177 r0))) = 0 → ∀ (r_5 : Nat) (h_6 : JH), r_5 = jsz h + 1 → h_6 = nwo h 103 4 → (cX13_init D d r_5 h_6 (pV D h_6 (fun h_9 => jin (jfi h 177 r0) (jln h_9 (jfr h 176 r0)) ∧ ∀ h_13 : JH, h_13 = war h_9 (jfr h 176 r0) (ixn (jfi h 177 r0)) r_5 → (W_X8_value_87 D d Q r0 x1 y2 h_13)) (jth Q))))))
theorem w_X8_value_59 {D : JD} {d : Nat} {Q : JO → JH → Prop} {r0 : Nat} {x1 : Int32} {y2 : Int64} {h : JH} (w : W_X8_value_59 D d Q r0 x1 y2 h) : JW D (d + 1) mX8_value 59 [some (vR 41 r0), some (vI x1), some (vL y2), none, none, none] [] h Q := by
  unfold W_X8_value_59 at w
  refine jw_aload_n (pc' := 60) rfl rfl ?_
  obtain ⟨g_1, w⟩ := w
  refine jw_getR (pc' := 63) (F := 176) (t' := 163) rfl rfl rfl rfl rfl g_1 ?_
  refine jw_aload_n (pc' := 64) rfl rfl ?_
  refine jw_getI (pc' := 67) (F := 177) rfl rfl rfl rfl g_1 ?_
  obtain ⟨g_2, w⟩ := w
  obtain ⟨g_3, w⟩ := w
  refine jw_aald (pc' := 68) (t' := 46) rfl rfl rfl rfl g_2 g_3.ix g_3.2 ?_
  refine jw_ifnonnull (tgt := 87) (pc' := 71) rfl rfl (fun c_4 => ?_) (fun c_4 => ?_)
  · replace w := w.1 c_4
    exact w_X8_value_87 w
  · replace w := w.2 c_4
    refine jw_aload_n (pc' := 72) rfl rfl ?_
    refine jw_getR (pc' := 75) (F := 176) (t' := 163) rfl rfl rfl rfl rfl g_1 ?_
    refine jw_aload_n (pc' := 76) rfl rfl ?_
    refine jw_getI (pc' := 79) (F := 177) rfl rfl rfl rfl g_1 ?_
    refine jw_new' (pc' := 82) (k := 103) (n := 4) rfl rfl rfl rfl rfl rfl rfl (fun r_5 h_6 e_7 e_8 => ?_)
    replace w := w r_5 h_6 e_7 e_8
    refine jw_dup (pc' := 83) rfl rfl ?_
    refine jw_cV (st := [vR 103 r_5, vI (jfi h 177 r0), vR 163 (jfr h 176 r0)]) (sa := [vR 103 r_5]) okX13_init rfl rfl rfl rfl rfl rfl (jstp_init (sa := []) (st := [vR 103 r_5, vI (jfi h 177 r0), vR 163 (jfr h 176 r0)]) rfl rfl sX13_init okX13_init (lw_g (jtb_mem (c := 15) (i := 221) rfl) rfl) (jnz e_7) rfl rfl) w (fun h_9 _ _ w => ?_)
    obtain ⟨g_12, w⟩ := w
    refine jw_aast' (pc' := 87) rfl rfl rfl rfl rfl rfl g_2 g_12 (fun h_13 e_14 => ?_)
    replace w := w h_13 e_14
    exact w_X8_value_87 w
def W_X8_value_26 (D : JD) (d : Nat) (Q : JO → JH → Prop) (K26 : Nat → Int32 → Int64 → Nat → Int32 → JH → Prop) (r0 : Nat) (x1 : Int32) (y2 : Int64) (r4 : Nat) (x5 : Int32) (h : JH) : Prop :=
  r0 ≠ 0 ∧ (((jfi h 177 r0) ≤ x5 → ∀ h_3 : JH, h_3 = wfr h 176 r0 r4 → (W_X8_value_59 D d Q r0 x1 y2 h_3)) ∧ (¬ (jfi h 177 r0) ≤ x5 → (jfr h 176 r0) ≠ 0 ∧ jin x5 (jln h (jfr h 176 r0)) ∧ (r4 ≠ 0 ∧ jin x5 (jln h r4) ∧ ∀ h_9 : JH, h_9 = war h r4 (ixn x5) (jar h (jfr h 176 r0) (ixn x5)) → (K26 r0 x1 y2 r4 (x5 + (1 : Int32)) h_9))))
theorem w_X8_value_26 {D : JD} {d : Nat} {Q : JO → JH → Prop} {K26 : Nat → Int32 → Int64 → Nat → Int32 → JH → Prop} {r0 : Nat} {x1 : Int32} {y2 : Int64} {r4 : Nat} {x5 : Int32} {h : JH} (hK26 : ∀ (r0 : Nat) (x1 : Int32) (y2 : Int64) (r4 : Nat) (x5 : Int32) (h : JH), K26 r0 x1 y2 r4 x5 h → JW D (d + 1) mX8_value 26 [some (vR 41 r0), some (vI x1), some (vL y2), none, some (vR 163 r4), some (vI x5)] [] h Q) (w : W_X8_value_26 D d Q K26 r0 x1 y2 r4 x5 h) : JW D (d + 1) mX8_value 26 [some (vR 41 r0), some (vI x1), some (vL y2), none, some (vR 163 r4), some (vI x5)] [] h Q := by
  unfold W_X8_value_26 at w
  refine jw_iload (pc' := 28) rfl rfl ?_
  refine jw_aload_n (pc' := 29) rfl rfl ?_
  obtain ⟨g_1, w⟩ := w
  refine jw_getI (pc' := 32) (F := 177) rfl rfl rfl rfl g_1 ?_
  refine jw_icmp_ge (tgt := 53) (pc' := 35) rfl rfl (fun c_2 => ?_) (fun c_2 => ?_)
  · replace w := w.1 c_2
    refine jw_aload_n (pc' := 54) rfl rfl ?_
    refine jw_aload (pc' := 56) rfl rfl ?_
    refine jw_putR' (pc' := 59) (F := 176) rfl rfl rfl (Or.inr rfl) (Or.inl rfl) rfl rfl rfl g_1 (fun h_3 e_4 => ?_)
    replace w := w h_3 e_4
    refine jw_gen (ls' := [some (vR 41 r0), some (vI x1), some (vL y2), none, none, none]) (st' := []) (And.intro (Or.inl rfl) (And.intro (Or.inl rfl) (And.intro (Or.inl rfl) (trivial)))) (trivial) ?_
    exact w_X8_value_59 w
  · replace w := w.2 c_2
    refine jw_aload (pc' := 37) rfl rfl ?_
    refine jw_iload (pc' := 39) rfl rfl ?_
    refine jw_aload_n (pc' := 40) rfl rfl ?_
    refine jw_getR (pc' := 43) (F := 176) (t' := 163) rfl rfl rfl rfl rfl g_1 ?_
    refine jw_iload (pc' := 45) rfl rfl ?_
    obtain ⟨g_5, w⟩ := w
    obtain ⟨g_6, w⟩ := w
    refine jw_aald (pc' := 46) (t' := 46) rfl rfl rfl rfl g_5 g_6.ix g_6.2 ?_
    obtain ⟨g_7, w⟩ := w
    obtain ⟨g_8, w⟩ := w
    refine jw_aast' (pc' := 47) rfl rfl rfl rfl rfl rfl g_7 g_8 (fun h_9 e_10 => ?_)
    replace w := w h_9 e_10
    refine jw_iinc (pc' := 50) (y := x5 + (1 : Int32)) (ls' := [some (vR 41 r0), some (vI x1), some (vL y2), none, some (vR 163 r4), some (vI (x5 + (1 : Int32)))]) rfl (by decide) rfl rfl rfl ?_
    refine jw_goto (pc' := 26) rfl rfl ?_
    exact hK26 _ _ _ _ _ _ w
def L_X8_value_26 (D : JD) (d : Nat) (Q : JO → JH → Prop) : Nat → Nat → Int32 → Int64 → Nat → Int32 → JH → Prop
  | 0 => fun _ _ _ _ _ _ => False
  | n + 1 => fun r0 x1 y2 r4 x5 h => W_X8_value_26 D d Q (L_X8_value_26 D d Q n) r0 x1 y2 r4 x5 h
theorem l_X8_value_26 {D : JD} {d : Nat} {Q : JO → JH → Prop} : ∀ (n : Nat) (r0 : Nat) (x1 : Int32) (y2 : Int64) (r4 : Nat) (x5 : Int32) (h : JH), L_X8_value_26 D d Q n r0 x1 y2 r4 x5 h → JW D (d + 1) mX8_value 26 [some (vR 41 r0), some (vI x1), some (vL y2), none, some (vR 163 r4), some (vI x5)] [] h Q := by
  intro n
  induction n with
  | zero => intro _ _ _ _ _ _ w; exact w.elim
  | succ n ih => intro _ _ _ _ _ h w; exact w_X8_value_26 ih w
def W_X8_value_0 (D : JD) (d : Nat) (Q : JO → JH → Prop) (r0 : Nat) (x1 : Int32) (y2 : Int64) (h : JH) : Prop :=
  r0 ≠ 0 ∧ ((jfr h 176 r0) ≠ 0 ∧ ((¬ (jfi h 177 r0) = (nI (jln h (jfr h 176 r0))) → W_X8_value_59 D d Q r0 x1 y2 h) ∧ ((jfi h 177 r0) = (nI (jln h (jfr h 176 r0))) → jsm ((2 : Int32) * (jfi h 177 r0)) ∧ ∀ (r_4 : Nat) (h_5 : JH), r_4 = jsz h + 1 → h_5 = nwa h 163 (ixn ((2 : Int32) * (jfi h 177 r0))) → (∃ n, L_X8_value_26 D d Q n r0 x1 y2 r_4 (0 : Int32) h_5))))
theorem w_X8_value_0 {D : JD} {d : Nat} {Q : JO → JH → Prop} {r0 : Nat} {x1 : Int32} {y2 : Int64} {h : JH} (w : W_X8_value_0 D d Q r0 x1 y2 h) : JW D (d + 1) mX8_value 0 [some (vR 41 r0), some (vI x1), some (vL y2), none, none, none] [] h Q := by
  unfold W_X8_value_0 at w
  refine jw_aload_n (pc' := 1) rfl rfl ?_
  obtain ⟨g_1, w⟩ := w
  refine jw_getI (pc' := 4) (F := 177) rfl rfl rfl rfl g_1 ?_
  refine jw_aload_n (pc' := 5) rfl rfl ?_
  refine jw_getR (pc' := 8) (F := 176) (t' := 163) rfl rfl rfl rfl rfl g_1 ?_
  obtain ⟨g_2, w⟩ := w
  refine jw_alen (pc' := 9) rfl rfl g_2 ?_
  refine jw_icmp_ne (tgt := 59) (pc' := 12) rfl rfl (fun c_3 => ?_) (fun c_3 => ?_)
  · replace w := w.1 c_3
    exact w_X8_value_59 w
  · replace w := w.2 c_3
    refine jw_iconst (pc' := 13) (x := (2 : Int32)) rfl rfl ?_
    refine jw_aload_n (pc' := 14) rfl rfl ?_
    refine jw_getI (pc' := 17) (F := 177) rfl rfl rfl rfl g_1 ?_
    refine jw_imul (pc' := 18) rfl ?_
    obtain ⟨g_8, w⟩ := w
    refine jw_anew' (pc' := 21) (n := ixn ((2 : Int32) * (jfi h 177 r0))) (k := 163) rfl rfl rfl rfl rfl rfl rfl (jtb_mem (c := 15) (i := 100) rfl) g_8.ix g_8.b (fun r_4 h_5 e_6 e_7 => ?_)
    replace w := w r_4 h_5 e_6 e_7
    refine jw_astore (pc' := 23) (ls' := [some (vR 41 r0), some (vI x1), some (vL y2), none, some (vR 163 r_4), none]) rfl (by decide) rfl ?_
    refine jw_iconst (pc' := 24) (x := (0 : Int32)) rfl rfl ?_
    refine jw_istore (pc' := 26) (ls' := [some (vR 41 r0), some (vI x1), some (vL y2), none, some (vR 163 r_4), some (vI (0 : Int32))]) rfl (by decide) rfl ?_
    obtain ⟨n, w⟩ := w
    exact l_X8_value_26 n _ _ _ _ _ _ w
def T_X8_value (D : JD) (d : Nat) (Q : JO → JH → Prop) (r0 : Nat) (x1 : Int32) (y2 : Int64) (h : JH) : Prop := W_X8_value_0 D d Q r0 x1 y2 h
theorem t_X8_value {D : JD} {d : Nat} {Q : JO → JH → Prop} {r0 : Nat} {x1 : Int32} {y2 : Int64} {h : JH} (w : T_X8_value D d Q r0 x1 y2 h) : cX8_value D (d + 1) r0 x1 y2 h Q := by
  unfold T_X8_value at w
  unfold cX8_value
  exact w_X8_value_0 w
