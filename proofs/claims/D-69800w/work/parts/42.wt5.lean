/-! what each method needs (printed by tools/gen_wp.py) -/
set_option maxRecDepth 4000
def W_X8_describe_261 (D : JD) (d : Nat) (Q : JO → JH → Prop) (h : JH) : Prop :=
  Q (.inl none) h
theorem w_X8_describe_261 {D : JD} {d : Nat} {Q : JO → JH → Prop} {h : JH} (w : W_X8_describe_261 D d Q h) : JW D (d + 1) mX8_describe 261 [none, none, none, none, none, none, none] [] h Q := by
  unfold W_X8_describe_261 at w
  exact jw_return rfl rfl w
def W_X8_describe_241 (D : JD) (d : Nat) (Q : JO → JH → Prop) (r0 : Nat) (r4 : Nat) (x5 : Int32) (h : JH) : Prop :=
  (x5 = 0 → r0 ≠ 0 ∧ (cX8_empty D d r0 (110 : Int32) h (pV D h (fun h_3 => W_X8_describe_261 D d Q h_3) (jth Q)))) ∧ (¬ x5 = 0 → r0 ≠ 0 ∧ (cX8_columns D d r0 r4 h (pV D h (fun h_7 => W_X8_describe_261 D d Q h_7) (jth Q))))
theorem w_X8_describe_241 {D : JD} {d : Nat} {Q : JO → JH → Prop} {r0 : Nat} {r4 : Nat} {x5 : Int32} {h : JH} (w : W_X8_describe_241 D d Q r0 r4 x5 h) : JW D (d + 1) mX8_describe 241 [some (vR 41 r0), none, none, none, some (vR 47 r4), some (vI x5), none] [] h Q := by
  unfold W_X8_describe_241 at w
  refine jw_iload (pc' := 243) rfl rfl ?_
  refine jw_if_eq (tgt := 255) (pc' := 246) rfl rfl (fun c_1 => ?_) (fun c_1 => ?_)
  · replace w := w.1 c_1
    refine jw_aload_n (pc' := 256) rfl rfl ?_
    refine jw_bipush (pc' := 258) (x := (110 : Int32)) rfl rfl ?_
    obtain ⟨g_2, w⟩ := w
    refine jw_cV (st := []) (sa := [vR 41 r0, vI (110 : Int32)]) okX8_empty rfl rfl rfl rfl rfl rfl (jstp_virtual (sa := [vI (110 : Int32)]) (st := []) (k := 0) rfl rfl sX8_empty okX8_empty g_2 (one41.k g_2) rfl rfl) w (fun h_3 _ _ w => ?_)
    refine jw_gen (ls' := [none, none, none, none, none, none, none]) (st' := []) (trivial) (trivial) ?_
    exact w_X8_describe_261 w
  · replace w := w.2 c_1
    refine jw_aload_n (pc' := 247) rfl rfl ?_
    refine jw_aload (pc' := 249) rfl rfl ?_
    obtain ⟨g_6, w⟩ := w
    refine jw_cV (st := []) (sa := [vR 41 r0, vR 47 r4]) okX8_columns rfl rfl rfl rfl rfl rfl (jstp_virtual (sa := [vR 47 r4]) (st := []) (k := 0) rfl rfl sX8_columns okX8_columns g_6 (one41.k g_6) rfl rfl) w (fun h_7 _ _ w => ?_)
    refine jw_goto (pc' := 261) rfl rfl ?_
    refine jw_gen (ls' := [none, none, none, none, none, none, none]) (st' := []) (trivial) (trivial) ?_
    exact w_X8_describe_261 w
def W_X8_describe_211 (D : JD) (d : Nat) (Q : JO → JH → Prop) (K211 : Nat → Nat → Int32 → Int32 → JH → Prop) (r0 : Nat) (r4 : Nat) (x5 : Int32) (x6 : Int32) (h : JH) : Prop :=
  r0 ≠ 0 ∧ (((jfi h 198 r0) ≤ x6 → cX8_close D d r0 h (pV D h (fun h_3 => W_X8_describe_241 D d Q r0 r4 x5 h_3) (jth Q))) ∧ (¬ (jfi h 198 r0) ≤ x6 → (jfr h 197 r0) ≠ 0 ∧ jin x6 (jln h (jfr h 197 r0)) ∧ (cX8_say4 D d r0 (jai h (jfr h 197 r0) (ixn x6)) h (pV D h (fun h_8 => K211 r0 r4 x5 (x6 + (1 : Int32)) h_8) (jth Q)))))
theorem w_X8_describe_211 {D : JD} {d : Nat} {Q : JO → JH → Prop} {K211 : Nat → Nat → Int32 → Int32 → JH → Prop} {r0 : Nat} {r4 : Nat} {x5 : Int32} {x6 : Int32} {h : JH} (hK211 : ∀ (r0 : Nat) (r4 : Nat) (x5 : Int32) (x6 : Int32) (h : JH), K211 r0 r4 x5 x6 h → JW D (d + 1) mX8_describe 211 [some (vR 41 r0), none, none, none, some (vR 47 r4), some (vI x5), some (vI x6)] [] h Q) (w : W_X8_describe_211 D d Q K211 r0 r4 x5 x6 h) : JW D (d + 1) mX8_describe 211 [some (vR 41 r0), none, none, none, some (vR 47 r4), some (vI x5), some (vI x6)] [] h Q := by
  unfold W_X8_describe_211 at w
  refine jw_iload (pc' := 213) rfl rfl ?_
  refine jw_aload_n (pc' := 214) rfl rfl ?_
  obtain ⟨g_1, w⟩ := w
  refine jw_getI (pc' := 217) (F := 198) rfl rfl rfl rfl g_1 ?_
  refine jw_icmp_ge (tgt := 237) (pc' := 220) rfl rfl (fun c_2 => ?_) (fun c_2 => ?_)
  · replace w := w.1 c_2
    refine jw_aload_n (pc' := 238) rfl rfl ?_
    refine jw_cV (st := []) (sa := [vR 41 r0]) okX8_close rfl rfl rfl rfl rfl rfl (jstp_virtual (sa := []) (st := []) (k := 0) rfl rfl sX8_close okX8_close g_1 (one41.k g_1) rfl rfl) w (fun h_3 _ _ w => ?_)
    refine jw_gen (ls' := [some (vR 41 r0), none, none, none, some (vR 47 r4), some (vI x5), none]) (st' := []) (And.intro (Or.inl rfl) (And.intro (Or.inl rfl) (And.intro (Or.inl rfl) (trivial)))) (trivial) ?_
    exact w_X8_describe_241 w
  · replace w := w.2 c_2
    refine jw_aload_n (pc' := 221) rfl rfl ?_
    refine jw_aload_n (pc' := 222) rfl rfl ?_
    refine jw_getR (pc' := 225) (F := 197) (t' := 68) rfl rfl rfl rfl rfl g_1 ?_
    refine jw_iload (pc' := 227) rfl rfl ?_
    obtain ⟨g_6, w⟩ := w
    obtain ⟨g_7, w⟩ := w
    refine jw_iald (pc' := 228) rfl rfl rfl rfl g_6 g_7.ix g_7.2 ?_
    refine jw_cV (st := []) (sa := [vR 41 r0, vI (jai h (jfr h 197 r0) (ixn x6))]) okX8_say4 rfl rfl rfl rfl rfl rfl (jstp_virtual (sa := [vI (jai h (jfr h 197 r0) (ixn x6))]) (st := []) (k := 0) rfl rfl sX8_say4 okX8_say4 g_1 (one41.k g_1) rfl rfl) w (fun h_8 _ _ w => ?_)
    refine jw_iinc (pc' := 234) (y := x6 + (1 : Int32)) (ls' := [some (vR 41 r0), none, none, none, some (vR 47 r4), some (vI x5), some (vI (x6 + (1 : Int32)))]) rfl (by decide) rfl rfl rfl ?_
    refine jw_goto (pc' := 211) rfl rfl ?_
    exact hK211 _ _ _ _ _ w
def L_X8_describe_211 (D : JD) (d : Nat) (Q : JO → JH → Prop) : Nat → Nat → Nat → Int32 → Int32 → JH → Prop
  | 0 => fun _ _ _ _ _ => False
  | n + 1 => fun r0 r4 x5 x6 h => W_X8_describe_211 D d Q (L_X8_describe_211 D d Q n) r0 r4 x5 x6 h
theorem l_X8_describe_211 {D : JD} {d : Nat} {Q : JO → JH → Prop} : ∀ (n : Nat) (r0 : Nat) (r4 : Nat) (x5 : Int32) (x6 : Int32) (h : JH), L_X8_describe_211 D d Q n r0 r4 x5 x6 h → JW D (d + 1) mX8_describe 211 [some (vR 41 r0), none, none, none, some (vR 47 r4), some (vI x5), some (vI x6)] [] h Q := by
  intro n
  induction n with
  | zero => intro _ _ _ _ _ w; exact w.elim
  | succ n ih => intro _ _ _ _ h w; exact w_X8_describe_211 ih w
def W_X8_describe_190 (D : JD) (d : Nat) (Q : JO → JH → Prop) (r0 : Nat) (x1 : Int32) (r4 : Nat) (x5 : Int32) (h : JH) : Prop :=
  (x1 = 0 → W_X8_describe_241 D d Q r0 r4 x5 h) ∧ (¬ x1 = 0 → r0 ≠ 0 ∧ (cX8_begin D d r0 (116 : Int32) h (pV D h (fun h_3 => cX8_say2 D d r0 (jfi h_3 198 r0) h_3 (pV D h_3 (fun h_6 => ∃ n, L_X8_describe_211 D d Q n r0 r4 x5 (0 : Int32) h_6) (jth Q))) (jth Q))))
theorem w_X8_describe_190 {D : JD} {d : Nat} {Q : JO → JH → Prop} {r0 : Nat} {x1 : Int32} {r4 : Nat} {x5 : Int32} {h : JH} (w : W_X8_describe_190 D d Q r0 x1 r4 x5 h) : JW D (d + 1) mX8_describe 190 [some (vR 41 r0), some (vI x1), none, none, some (vR 47 r4), some (vI x5), none] [] h Q := by
  unfold W_X8_describe_190 at w
  refine jw_iload_n (pc' := 191) rfl rfl ?_
  refine jw_if_eq (tgt := 241) (pc' := 194) rfl rfl (fun c_1 => ?_) (fun c_1 => ?_)
  · replace w := w.1 c_1
    refine jw_gen (ls' := [some (vR 41 r0), none, none, none, some (vR 47 r4), some (vI x5), none]) (st' := []) (And.intro (Or.inl rfl) (And.intro (Or.inl rfl) (And.intro (Or.inl rfl) (trivial)))) (trivial) ?_
    exact w_X8_describe_241 w
  · replace w := w.2 c_1
    refine jw_aload_n (pc' := 195) rfl rfl ?_
    refine jw_bipush (pc' := 197) (x := (116 : Int32)) rfl rfl ?_
    obtain ⟨g_2, w⟩ := w
    refine jw_cV (st := []) (sa := [vR 41 r0, vI (116 : Int32)]) okX8_begin rfl rfl rfl rfl rfl rfl (jstp_virtual (sa := [vI (116 : Int32)]) (st := []) (k := 0) rfl rfl sX8_begin okX8_begin g_2 (one41.k g_2) rfl rfl) w (fun h_3 _ _ w => ?_)
    refine jw_aload_n (pc' := 201) rfl rfl ?_
    refine jw_aload_n (pc' := 202) rfl rfl ?_
    refine jw_getI (pc' := 205) (F := 198) rfl rfl rfl rfl g_2 ?_
    refine jw_cV (st := []) (sa := [vR 41 r0, vI (jfi h_3 198 r0)]) okX8_say2 rfl rfl rfl rfl rfl rfl (jstp_virtual (sa := [vI (jfi h_3 198 r0)]) (st := []) (k := 0) rfl rfl sX8_say2 okX8_say2 g_2 (one41.k g_2) rfl rfl) w (fun h_6 _ _ w => ?_)
    refine jw_iconst (pc' := 209) (x := (0 : Int32)) rfl rfl ?_
    refine jw_istore (pc' := 211) (ls' := [some (vR 41 r0), some (vI x1), none, none, some (vR 47 r4), some (vI x5), some (vI (0 : Int32))]) rfl (by decide) rfl ?_
    refine jw_gen (ls' := [some (vR 41 r0), none, none, none, some (vR 47 r4), some (vI x5), some (vI (0 : Int32))]) (st' := []) (And.intro (Or.inl rfl) (And.intro (Or.inl rfl) (And.intro (Or.inl rfl) (And.intro (Or.inl rfl) (trivial))))) (trivial) ?_
    obtain ⟨n, w⟩ := w
    exact l_X8_describe_211 n _ _ _ _ _ w
def W_X8_describe_179 (D : JD) (d : Nat) (Q : JO → JH → Prop) (r0 : Nat) (x1 : Int32) (r4 : Nat) (x5 : Int32) (h : JH) : Prop :=
  (x5 = 0 → W_X8_describe_190 D d Q r0 x1 r4 x5 h) ∧ (¬ x5 = 0 → r0 ≠ 0 ∧ (cX8_check D d r0 r4 h (pV D h (fun h_3 => W_X8_describe_190 D d Q r0 x1 r4 x5 h_3) (jth Q))))
theorem w_X8_describe_179 {D : JD} {d : Nat} {Q : JO → JH → Prop} {r0 : Nat} {x1 : Int32} {r4 : Nat} {x5 : Int32} {h : JH} (w : W_X8_describe_179 D d Q r0 x1 r4 x5 h) : JW D (d + 1) mX8_describe 179 [some (vR 41 r0), some (vI x1), none, none, some (vR 47 r4), some (vI x5), none] [] h Q := by
  unfold W_X8_describe_179 at w
  refine jw_iload (pc' := 181) rfl rfl ?_
  refine jw_if_eq (tgt := 190) (pc' := 184) rfl rfl (fun c_1 => ?_) (fun c_1 => ?_)
  · replace w := w.1 c_1
    exact w_X8_describe_190 w
  · replace w := w.2 c_1
    refine jw_aload_n (pc' := 185) rfl rfl ?_
    refine jw_aload (pc' := 187) rfl rfl ?_
    obtain ⟨g_2, w⟩ := w
    refine jw_cV (st := []) (sa := [vR 41 r0, vR 47 r4]) okX8_check rfl rfl rfl rfl rfl rfl (jstp_virtual (sa := [vR 47 r4]) (st := []) (k := 0) rfl rfl sX8_check okX8_check g_2 (one41.k g_2) rfl rfl) w (fun h_3 _ _ w => ?_)
    exact w_X8_describe_190 w
def W_X8_describe_166 (D : JD) (d : Nat) (Q : JO → JH → Prop) (r0 : Nat) (x1 : Int32) (r4 : Nat) (s0 : Int32) (h : JH) : Prop :=
  (s0 = 0 → W_X8_describe_179 D d Q r0 x1 r4 s0 h) ∧ (¬ s0 = 0 → r0 ≠ 0 ∧ (cX8_allowed D d r0 r4 h (pV D h (fun h_3 => W_X8_describe_179 D d Q r0 x1 r4 s0 h_3) (jth Q))))
theorem w_X8_describe_166 {D : JD} {d : Nat} {Q : JO → JH → Prop} {r0 : Nat} {x1 : Int32} {r4 : Nat} {s0 : Int32} {h : JH} (w : W_X8_describe_166 D d Q r0 x1 r4 s0 h) : JW D (d + 1) mX8_describe 166 [some (vR 41 r0), some (vI x1), none, none, some (vR 47 r4), none, none] [vI s0] h Q := by
  unfold W_X8_describe_166 at w
  refine jw_istore (pc' := 168) (ls' := [some (vR 41 r0), some (vI x1), none, none, some (vR 47 r4), some (vI s0), none]) rfl (by decide) rfl ?_
  refine jw_iload (pc' := 170) rfl rfl ?_
  refine jw_if_eq (tgt := 179) (pc' := 173) rfl rfl (fun c_1 => ?_) (fun c_1 => ?_)
  · replace w := w.1 c_1
    exact w_X8_describe_179 w
  · replace w := w.2 c_1
    refine jw_aload_n (pc' := 174) rfl rfl ?_
    refine jw_aload (pc' := 176) rfl rfl ?_
    obtain ⟨g_2, w⟩ := w
    refine jw_cV (st := []) (sa := [vR 41 r0, vR 47 r4]) okX8_allowed rfl rfl rfl rfl rfl rfl (jstp_virtual (sa := [vR 47 r4]) (st := []) (k := 0) rfl rfl sX8_allowed okX8_allowed g_2 (one41.k g_2) rfl rfl) w (fun h_3 _ _ w => ?_)
    exact w_X8_describe_179 w
def W_X8_describe_165 (D : JD) (d : Nat) (Q : JO → JH → Prop) (r0 : Nat) (x1 : Int32) (r4 : Nat) (h : JH) : Prop :=
  W_X8_describe_166 D d Q r0 x1 r4 (0 : Int32) h
theorem w_X8_describe_165 {D : JD} {d : Nat} {Q : JO → JH → Prop} {r0 : Nat} {x1 : Int32} {r4 : Nat} {h : JH} (w : W_X8_describe_165 D d Q r0 x1 r4 h) : JW D (d + 1) mX8_describe 165 [some (vR 41 r0), some (vI x1), none, none, some (vR 47 r4), none, none] [] h Q := by
  unfold W_X8_describe_165 at w
  refine jw_iconst (pc' := 166) (x := (0 : Int32)) rfl rfl ?_
  exact w_X8_describe_166 w
def W_X8_describe_146 (D : JD) (d : Nat) (Q : JO → JH → Prop) (r0 : Nat) (x1 : Int32) (r4 : Nat) (h : JH) : Prop :=
  (r4 = 0 → W_X8_describe_165 D d Q r0 x1 r4 h) ∧ (r4 ≠ 0 → (¬ (jfi h 270 r4) = (8 : Int32) → W_X8_describe_165 D d Q r0 x1 r4 h) ∧ ((jfi h 270 r4) = (8 : Int32) → W_X8_describe_166 D d Q r0 x1 r4 (1 : Int32) h))
theorem w_X8_describe_146 {D : JD} {d : Nat} {Q : JO → JH → Prop} {r0 : Nat} {x1 : Int32} {r4 : Nat} {h : JH} (w : W_X8_describe_146 D d Q r0 x1 r4 h) : JW D (d + 1) mX8_describe 146 [some (vR 41 r0), some (vI x1), none, none, some (vR 47 r4), none, none] [] h Q := by
  unfold W_X8_describe_146 at w
  refine jw_aload (pc' := 148) rfl rfl ?_
  refine jw_ifnull (tgt := 165) (pc' := 151) rfl rfl (fun c_1 => ?_) (fun c_1 => ?_)
  · replace w := w.1 c_1
    exact w_X8_describe_165 w
  · replace w := w.2 c_1
    refine jw_aload (pc' := 153) rfl rfl ?_
    refine jw_getI (pc' := 156) (F := 270) rfl rfl rfl rfl c_1 ?_
    refine jw_bipush (pc' := 158) (x := (8 : Int32)) rfl rfl ?_
    refine jw_icmp_ne (tgt := 165) (pc' := 161) rfl rfl (fun c_2 => ?_) (fun c_2 => ?_)
    · replace w := w.1 c_2
      exact w_X8_describe_165 w
    · replace w := w.2 c_2
      refine jw_iconst (pc' := 162) (x := (1 : Int32)) rfl rfl ?_
      refine jw_goto (pc' := 166) rfl rfl ?_
      exact w_X8_describe_166 w
def W_X8_describe_93 (D : JD) (d : Nat) (Q : JO → JH → Prop) (r0 : Nat) (x1 : Int32) (x3 : Int32) (q0 : Nat) (h : JH) : Prop :=
  (x1 = 0 → r0 ≠ 0 ∧ ((jfr h 233 r0) ≠ 0 ∧ jin x3 (jln h (jfr h 233 r0)) ∧ ((jar h (jfr h 233 r0) (ixn x3)) ≠ 0 ∧ (jin x3 (jln h (jfr h 233 r0)) ∧ (cX8_types D d r0 (jfr h 321 (jar h (jfr h 233 r0) (ixn x3))) (jfi h 323 (jar h (jfr h 233 r0) (ixn x3))) h (pV D h (fun h_7 => W_X8_describe_146 D d Q r0 x1 q0 h_7) (jth Q))))))) ∧ (¬ x1 = 0 → r0 ≠ 0 ∧ ((jfr h 231 r0) ≠ 0 ∧ jin x3 (jln h (jfr h 231 r0)) ∧ ((jar h (jfr h 231 r0) (ixn x3)) ≠ 0 ∧ (jin x3 (jln h (jfr h 231 r0)) ∧ (cX8_types D d r0 (jfr h 317 (jar h (jfr h 231 r0) (ixn x3))) (jfi h 318 (jar h (jfr h 231 r0) (ixn x3))) h (pV D h (fun h_15 => W_X8_describe_146 D d Q r0 x1 q0 h_15) (jth Q)))))))
theorem w_X8_describe_93 {D : JD} {d : Nat} {Q : JO → JH → Prop} {r0 : Nat} {x1 : Int32} {x3 : Int32} {q0 : Nat} {h : JH} (w : W_X8_describe_93 D d Q r0 x1 x3 q0 h) : JW D (d + 1) mX8_describe 93 [some (vR 41 r0), some (vI x1), none, some (vI x3), none, none, none] [vR 47 q0] h Q := by
  unfold W_X8_describe_93 at w
  refine jw_astore (pc' := 95) (ls' := [some (vR 41 r0), some (vI x1), none, some (vI x3), some (vR 47 q0), none, none]) rfl (by decide) rfl ?_
  refine jw_iload_n (pc' := 96) rfl rfl ?_
  refine jw_if_eq (tgt := 124) (pc' := 99) rfl rfl (fun c_1 => ?_) (fun c_1 => ?_)
  · replace w := w.1 c_1
    refine jw_aload_n (pc' := 125) rfl rfl ?_
    refine jw_aload_n (pc' := 126) rfl rfl ?_
    obtain ⟨g_2, w⟩ := w
    refine jw_getR (pc' := 129) (F := 233) (t' := 182) rfl rfl rfl rfl rfl g_2 ?_
    refine jw_iload_n (pc' := 130) rfl rfl ?_
    obtain ⟨g_3, w⟩ := w
    obtain ⟨g_4, w⟩ := w
    refine jw_aald (pc' := 131) (t' := 50) rfl rfl rfl rfl g_3 g_4.ix g_4.2 ?_
    obtain ⟨g_5, w⟩ := w
    refine jw_getR (pc' := 134) (F := 321) (t' := 217) rfl rfl rfl rfl rfl g_5 ?_
    refine jw_aload_n (pc' := 135) rfl rfl ?_
    refine jw_getR (pc' := 138) (F := 233) (t' := 182) rfl rfl rfl rfl rfl g_2 ?_
    refine jw_iload_n (pc' := 139) rfl rfl ?_
    obtain ⟨g_6, w⟩ := w
    refine jw_aald (pc' := 140) (t' := 50) rfl rfl rfl rfl g_3 g_6.ix g_6.2 ?_
    refine jw_getI (pc' := 143) (F := 323) rfl rfl rfl rfl g_5 ?_
    refine jw_cV (st := []) (sa := [vR 41 r0, vR 217 (jfr h 321 (jar h (jfr h 233 r0) (ixn x3))), vI (jfi h 323 (jar h (jfr h 233 r0) (ixn x3)))]) okX8_types rfl rfl rfl rfl rfl rfl (jstp_virtual (sa := [vR 217 (jfr h 321 (jar h (jfr h 233 r0) (ixn x3))), vI (jfi h 323 (jar h (jfr h 233 r0) (ixn x3)))]) (st := []) (k := 0) rfl rfl sX8_types okX8_types g_2 (one41.k g_2) rfl rfl) w (fun h_7 _ _ w => ?_)
    refine jw_gen (ls' := [some (vR 41 r0), some (vI x1), none, none, some (vR 47 q0), none, none]) (st' := []) (And.intro (Or.inl rfl) (And.intro (Or.inl rfl) (And.intro (Or.inl rfl) (trivial)))) (trivial) ?_
    exact w_X8_describe_146 w
  · replace w := w.2 c_1
    refine jw_aload_n (pc' := 100) rfl rfl ?_
    refine jw_aload_n (pc' := 101) rfl rfl ?_
    obtain ⟨g_10, w⟩ := w
    refine jw_getR (pc' := 104) (F := 231) (t' := 181) rfl rfl rfl rfl rfl g_10 ?_
    refine jw_iload_n (pc' := 105) rfl rfl ?_
    obtain ⟨g_11, w⟩ := w
    obtain ⟨g_12, w⟩ := w
    refine jw_aald (pc' := 106) (t' := 49) rfl rfl rfl rfl g_11 g_12.ix g_12.2 ?_
    obtain ⟨g_13, w⟩ := w
    refine jw_getR (pc' := 109) (F := 317) (t' := 216) rfl rfl rfl rfl rfl g_13 ?_
    refine jw_aload_n (pc' := 110) rfl rfl ?_
    refine jw_getR (pc' := 113) (F := 231) (t' := 181) rfl rfl rfl rfl rfl g_10 ?_
    refine jw_iload_n (pc' := 114) rfl rfl ?_
    obtain ⟨g_14, w⟩ := w
    refine jw_aald (pc' := 115) (t' := 49) rfl rfl rfl rfl g_11 g_14.ix g_14.2 ?_
    refine jw_getI (pc' := 118) (F := 318) rfl rfl rfl rfl g_13 ?_
    refine jw_cV (st := []) (sa := [vR 41 r0, vR 216 (jfr h 317 (jar h (jfr h 231 r0) (ixn x3))), vI (jfi h 318 (jar h (jfr h 231 r0) (ixn x3)))]) okX8_types rfl rfl rfl rfl rfl rfl (jstp_virtual (sa := [vR 216 (jfr h 317 (jar h (jfr h 231 r0) (ixn x3))), vI (jfi h 318 (jar h (jfr h 231 r0) (ixn x3)))]) (st := []) (k := 0) rfl rfl sX8_types okX8_types g_10 (one41.k g_10) rfl rfl) w (fun h_15 _ _ w => ?_)
    refine jw_goto (pc' := 146) rfl rfl ?_
    refine jw_gen (ls' := [some (vR 41 r0), some (vI x1), none, none, some (vR 47 q0), none, none]) (st' := []) (And.intro (Or.inl rfl) (And.intro (Or.inl rfl) (And.intro (Or.inl rfl) (trivial)))) (trivial) ?_
    exact w_X8_describe_146 w
def W_X8_describe_65 (D : JD) (d : Nat) (Q : JO → JH → Prop) (r0 : Nat) (x1 : Int32) (x3 : Int32) (q0 : Nat) (s1 : Int32) (q2 : Nat) (h : JH) : Prop :=
  q0 ≠ 0 ∧ (cX8_must D d q0 s1 q2 h (pV D h (fun h_2 => (x1 = 0 → r0 ≠ 0 ∧ ((jfr h_2 233 r0) ≠ 0 ∧ jin x3 (jln h_2 (jfr h_2 233 r0)) ∧ ((jar h_2 (jfr h_2 233 r0) (ixn x3)) ≠ 0 ∧ (W_X8_describe_93 D d Q r0 x1 x3 (jfr h_2 320 (jar h_2 (jfr h_2 233 r0) (ixn x3))) h_2)))) ∧ (¬ x1 = 0 → r0 ≠ 0 ∧ ((jfr h_2 231 r0) ≠ 0 ∧ jin x3 (jln h_2 (jfr h_2 231 r0)) ∧ ((jar h_2 (jfr h_2 231 r0) (ixn x3)) ≠ 0 ∧ (W_X8_describe_93 D d Q r0 x1 x3 (jfr h_2 316 (jar h_2 (jfr h_2 231 r0) (ixn x3))) h_2))))) (jth Q)))
theorem w_X8_describe_65 {D : JD} {d : Nat} {Q : JO → JH → Prop} {r0 : Nat} {x1 : Int32} {x3 : Int32} {q0 : Nat} {s1 : Int32} {q2 : Nat} {h : JH} (w : W_X8_describe_65 D d Q r0 x1 x3 q0 s1 q2 h) : JW D (d + 1) mX8_describe 65 [some (vR 41 r0), some (vI x1), none, some (vI x3), none, none, none] [vR 51 q2, vI s1, vR 41 q0] h Q := by
  unfold W_X8_describe_65 at w
  obtain ⟨g_1, w⟩ := w
  refine jw_cV (st := []) (sa := [vR 41 q0, vI s1, vR 51 q2]) okX8_must rfl rfl rfl rfl rfl rfl (jstp_virtual (sa := [vI s1, vR 51 q2]) (st := []) (k := 0) rfl rfl sX8_must okX8_must g_1 (one41.k g_1) rfl rfl) w (fun h_2 _ _ w => ?_)
  refine jw_iload_n (pc' := 69) rfl rfl ?_
  refine jw_if_eq (tgt := 84) (pc' := 72) rfl rfl (fun c_5 => ?_) (fun c_5 => ?_)
  · replace w := w.1 c_5
    refine jw_aload_n (pc' := 85) rfl rfl ?_
    obtain ⟨g_6, w⟩ := w
    refine jw_getR (pc' := 88) (F := 233) (t' := 182) rfl rfl rfl rfl rfl g_6 ?_
    refine jw_iload_n (pc' := 89) rfl rfl ?_
    obtain ⟨g_7, w⟩ := w
    obtain ⟨g_8, w⟩ := w
    refine jw_aald (pc' := 90) (t' := 50) rfl rfl rfl rfl g_7 g_8.ix g_8.2 ?_
    obtain ⟨g_9, w⟩ := w
    refine jw_getR (pc' := 93) (F := 320) (t' := 47) rfl rfl rfl rfl rfl g_9 ?_
    exact w_X8_describe_93 w
  · replace w := w.2 c_5
    refine jw_aload_n (pc' := 73) rfl rfl ?_
    obtain ⟨g_10, w⟩ := w
    refine jw_getR (pc' := 76) (F := 231) (t' := 181) rfl rfl rfl rfl rfl g_10 ?_
    refine jw_iload_n (pc' := 77) rfl rfl ?_
    obtain ⟨g_11, w⟩ := w
    obtain ⟨g_12, w⟩ := w
    refine jw_aald (pc' := 78) (t' := 49) rfl rfl rfl rfl g_11 g_12.ix g_12.2 ?_
    obtain ⟨g_13, w⟩ := w
    refine jw_getR (pc' := 81) (F := 316) (t' := 47) rfl rfl rfl rfl rfl g_13 ?_
    refine jw_goto (pc' := 93) rfl rfl ?_
    exact w_X8_describe_93 w
def W_X8_describe_52 (D : JD) (d : Nat) (Q : JO → JH → Prop) (r0 : Nat) (x1 : Int32) (x3 : Int32) (q0 : Nat) (s1 : Int32) (h : JH) : Prop :=
  (x1 = 0 → W_X8_describe_65 D d Q r0 x1 x3 q0 s1 (jcs D 342) h) ∧ (¬ x1 = 0 → W_X8_describe_65 D d Q r0 x1 x3 q0 s1 (jcs D 337) h)
theorem w_X8_describe_52 {D : JD} {d : Nat} {Q : JO → JH → Prop} {r0 : Nat} {x1 : Int32} {x3 : Int32} {q0 : Nat} {s1 : Int32} {h : JH} (w : W_X8_describe_52 D d Q r0 x1 x3 q0 s1 h) : JW D (d + 1) mX8_describe 52 [some (vR 41 r0), some (vI x1), none, some (vI x3), none, none, none] [vI s1, vR 41 q0] h Q := by
  unfold W_X8_describe_52 at w
  refine jw_iload_n (pc' := 53) rfl rfl ?_
  refine jw_if_eq (tgt := 62) (pc' := 56) rfl rfl (fun c_1 => ?_) (fun c_1 => ?_)
  · replace w := w.1 c_1
    refine jw_ldcwS (pc' := 65) rfl rfl rfl rfl ?_
    exact w_X8_describe_65 w
  · replace w := w.2 c_1
    refine jw_ldcwS (pc' := 59) rfl rfl rfl rfl ?_
    refine jw_goto (pc' := 65) rfl rfl ?_
    exact w_X8_describe_65 w
def W_X8_describe_41 (D : JD) (d : Nat) (Q : JO → JH → Prop) (r0 : Nat) (x1 : Int32) (s0 : Int32) (h : JH) : Prop :=
  (s0 < 0 → W_X8_describe_52 D d Q r0 x1 s0 r0 (0 : Int32) h) ∧ (¬ s0 < 0 → W_X8_describe_52 D d Q r0 x1 s0 r0 (1 : Int32) h)
theorem w_X8_describe_41 {D : JD} {d : Nat} {Q : JO → JH → Prop} {r0 : Nat} {x1 : Int32} {s0 : Int32} {h : JH} (w : W_X8_describe_41 D d Q r0 x1 s0 h) : JW D (d + 1) mX8_describe 41 [some (vR 41 r0), some (vI x1), none, none, none, none, none] [vI s0] h Q := by
  unfold W_X8_describe_41 at w
  refine jw_istore_n (pc' := 42) (ls' := [some (vR 41 r0), some (vI x1), none, some (vI s0), none, none, none]) rfl (by decide) rfl ?_
  refine jw_aload_n (pc' := 43) rfl rfl ?_
  refine jw_iload_n (pc' := 44) rfl rfl ?_
  refine jw_if_lt (tgt := 51) (pc' := 47) rfl rfl (fun c_1 => ?_) (fun c_1 => ?_)
  · replace w := w.1 c_1
    refine jw_iconst (pc' := 52) (x := (0 : Int32)) rfl rfl ?_
    exact w_X8_describe_52 w
  · replace w := w.2 c_1
    refine jw_iconst (pc' := 48) (x := (1 : Int32)) rfl rfl ?_
    refine jw_goto (pc' := 52) rfl rfl ?_
    exact w_X8_describe_52 w
def W_X8_describe_14 (D : JD) (d : Nat) (Q : JO → JH → Prop) (r0 : Nat) (s0 : Int32) (h : JH) : Prop :=
  r0 ≠ 0 ∧ (cX8_stringOf D d r0 h (pR D h 64 (fun v_4 h_2 => cX8_ended D d r0 h_2 (pV D h_2 (fun h_5 => (s0 = 0 → cX8_findPortal D d r0 v_4 h_5 (pI D h_5 (fun v_11 h_9 => W_X8_describe_41 D d Q r0 s0 v_11 h_9) (jth Q))) ∧ (¬ s0 = 0 → cX8_findPrepared D d r0 v_4 h_5 (pI D h_5 (fun v_14 h_12 => W_X8_describe_41 D d Q r0 s0 v_14 h_12) (jth Q)))) (jth Q))) (jth Q)))
theorem w_X8_describe_14 {D : JD} {d : Nat} {Q : JO → JH → Prop} {r0 : Nat} {s0 : Int32} {h : JH} (w : W_X8_describe_14 D d Q r0 s0 h) : JW D (d + 1) mX8_describe 14 [some (vR 41 r0), none, none, none, none, none, none] [vI s0] h Q := by
  unfold W_X8_describe_14 at w
  refine jw_istore_n (pc' := 15) (ls' := [some (vR 41 r0), some (vI s0), none, none, none, none, none]) rfl (by decide) rfl ?_
  refine jw_aload_n (pc' := 16) rfl rfl ?_
  obtain ⟨g_1, w⟩ := w
  refine jw_cR (st := []) (sa := [vR 41 r0]) okX8_stringOf rfl rfl rfl rfl rfl rfl (jstp_virtual (sa := []) (st := []) (k := 0) rfl rfl sX8_stringOf okX8_stringOf g_1 (one41.k g_1) rfl rfl) w (fun v_4 h_2 _ _ _ w => ?_)
  refine jw_astore_n (pc' := 20) (ls' := [some (vR 41 r0), some (vI s0), some (vR 64 v_4), none, none, none, none]) rfl (by decide) rfl ?_
  refine jw_aload_n (pc' := 21) rfl rfl ?_
  refine jw_cV (st := []) (sa := [vR 41 r0]) okX8_ended rfl rfl rfl rfl rfl rfl (jstp_virtual (sa := []) (st := []) (k := 0) rfl rfl sX8_ended okX8_ended g_1 (one41.k g_1) rfl rfl) w (fun h_5 _ _ w => ?_)
  refine jw_iload_n (pc' := 25) rfl rfl ?_
  refine jw_if_eq (tgt := 36) (pc' := 28) rfl rfl (fun c_8 => ?_) (fun c_8 => ?_)
  · replace w := w.1 c_8
    refine jw_aload_n (pc' := 37) rfl rfl ?_
    refine jw_aload_n (pc' := 38) rfl rfl ?_
    refine jw_cI (st := []) (sa := [vR 41 r0, vR 64 v_4]) okX8_findPortal rfl rfl rfl rfl rfl rfl (jstp_virtual (sa := [vR 64 v_4]) (st := []) (k := 0) rfl rfl sX8_findPortal okX8_findPortal g_1 (one41.k g_1) rfl rfl) w (fun v_11 h_9 _ _ w => ?_)
    refine jw_gen (ls' := [some (vR 41 r0), some (vI s0), none, none, none, none, none]) (st' := [vI v_11]) (And.intro (Or.inl rfl) (And.intro (Or.inl rfl) (trivial))) (And.intro (Or.inl rfl) (trivial)) ?_
    exact w_X8_describe_41 w
  · replace w := w.2 c_8
    refine jw_aload_n (pc' := 29) rfl rfl ?_
    refine jw_aload_n (pc' := 30) rfl rfl ?_
    refine jw_cI (st := []) (sa := [vR 41 r0, vR 64 v_4]) okX8_findPrepared rfl rfl rfl rfl rfl rfl (jstp_virtual (sa := [vR 64 v_4]) (st := []) (k := 0) rfl rfl sX8_findPrepared okX8_findPrepared g_1 (one41.k g_1) rfl rfl) w (fun v_14 h_12 _ _ w => ?_)
    refine jw_goto (pc' := 41) rfl rfl ?_
    refine jw_gen (ls' := [some (vR 41 r0), some (vI s0), none, none, none, none, none]) (st' := [vI v_14]) (And.intro (Or.inl rfl) (And.intro (Or.inl rfl) (trivial))) (And.intro (Or.inl rfl) (trivial)) ?_
    exact w_X8_describe_41 w
def W_X8_describe_0 (D : JD) (d : Nat) (Q : JO → JH → Prop) (r0 : Nat) (h : JH) : Prop :=
  r0 ≠ 0 ∧ (cX8_which D d r0 h (pI D h (fun v_4 h_2 => (¬ v_4 = (83 : Int32) → W_X8_describe_14 D d Q r0 (0 : Int32) h_2) ∧ (v_4 = (83 : Int32) → W_X8_describe_14 D d Q r0 (1 : Int32) h_2)) (jth Q)))
theorem w_X8_describe_0 {D : JD} {d : Nat} {Q : JO → JH → Prop} {r0 : Nat} {h : JH} (w : W_X8_describe_0 D d Q r0 h) : JW D (d + 1) mX8_describe 0 [some (vR 41 r0), none, none, none, none, none, none] [] h Q := by
  unfold W_X8_describe_0 at w
  refine jw_aload_n (pc' := 1) rfl rfl ?_
  obtain ⟨g_1, w⟩ := w
  refine jw_cI (st := []) (sa := [vR 41 r0]) okX8_which rfl rfl rfl rfl rfl rfl (jstp_virtual (sa := []) (st := []) (k := 0) rfl rfl sX8_which okX8_which g_1 (one41.k g_1) rfl rfl) w (fun v_4 h_2 _ _ w => ?_)
  refine jw_bipush (pc' := 6) (x := (83 : Int32)) rfl rfl ?_
  refine jw_icmp_ne (tgt := 13) (pc' := 9) rfl rfl (fun c_5 => ?_) (fun c_5 => ?_)
  · replace w := w.1 c_5
    refine jw_iconst (pc' := 14) (x := (0 : Int32)) rfl rfl ?_
    exact w_X8_describe_14 w
  · replace w := w.2 c_5
    refine jw_iconst (pc' := 10) (x := (1 : Int32)) rfl rfl ?_
    refine jw_goto (pc' := 14) rfl rfl ?_
    exact w_X8_describe_14 w
def T_X8_describe (D : JD) (d : Nat) (Q : JO → JH → Prop) (r0 : Nat) (h : JH) : Prop := W_X8_describe_0 D d Q r0 h
theorem t_X8_describe {D : JD} {d : Nat} {Q : JO → JH → Prop} {r0 : Nat} {h : JH} (w : T_X8_describe D d Q r0 h) : cX8_describe D (d + 1) r0 h Q := by
  unfold T_X8_describe at w
  unfold cX8_describe
  exact w_X8_describe_0 w
def W_X8_which_47 (D : JD) (d : Nat) (Q : JO → JH → Prop) (r0 : Nat) (x1 : Int32) (q0 : Nat) (s1 : Int32) (h : JH) : Prop :=
  q0 ≠ 0 ∧ (cX8_whole D d q0 s1 h (pV D h (fun h_2 => r0 ≠ 0 ∧ (∀ h_6 : JH, h_6 = wfi h_2 238 r0 ((jfi h_2 238 r0) + (1 : Int32)) → (Q (.inl (some (vI x1))) h_6))) (jth Q)))
theorem w_X8_which_47 {D : JD} {d : Nat} {Q : JO → JH → Prop} {r0 : Nat} {x1 : Int32} {q0 : Nat} {s1 : Int32} {h : JH} (w : W_X8_which_47 D d Q r0 x1 q0 s1 h) : JW D (d + 1) mX8_which 47 [some (vR 41 r0), some (vI x1)] [vI s1, vR 41 q0] h Q := by
  unfold W_X8_which_47 at w
  obtain ⟨g_1, w⟩ := w
  refine jw_cV (st := []) (sa := [vR 41 q0, vI s1]) okX8_whole rfl rfl rfl rfl rfl rfl (jstp_virtual (sa := [vI s1]) (st := []) (k := 0) rfl rfl sX8_whole okX8_whole g_1 (one41.k g_1) rfl rfl) w (fun h_2 _ _ w => ?_)
  refine jw_aload_n (pc' := 51) rfl rfl ?_
  refine jw_dup (pc' := 52) rfl rfl ?_
  obtain ⟨g_5, w⟩ := w
  refine jw_getI (pc' := 55) (F := 238) rfl rfl rfl rfl g_5 ?_
  refine jw_iconst (pc' := 56) (x := (1 : Int32)) rfl rfl ?_
  refine jw_iadd (pc' := 57) rfl ?_
  refine jw_putI' (pc' := 60) (F := 238) rfl rfl rfl (Or.inr rfl) (Or.inl rfl) rfl (rfl) (rfl) rfl g_5 (fun h_6 e_7 => ?_)
  replace w := w h_6 e_7
  refine jw_iload_n (pc' := 61) rfl rfl ?_
  exact jw_ireturn rfl rfl (rfl) w
def W_X8_which_42 (D : JD) (d : Nat) (Q : JO → JH → Prop) (r0 : Nat) (x1 : Int32) (q0 : Nat) (h : JH) : Prop :=
  W_X8_which_47 D d Q r0 x1 q0 (1 : Int32) h
theorem w_X8_which_42 {D : JD} {d : Nat} {Q : JO → JH → Prop} {r0 : Nat} {x1 : Int32} {q0 : Nat} {h : JH} (w : W_X8_which_42 D d Q r0 x1 q0 h) : JW D (d + 1) mX8_which 42 [some (vR 41 r0), some (vI x1)] [vR 41 q0] h Q := by
  unfold W_X8_which_42 at w
  refine jw_iconst (pc' := 43) (x := (1 : Int32)) rfl rfl ?_
  refine jw_goto (pc' := 47) rfl rfl ?_
  exact w_X8_which_47 w
def W_X8_which_17 (D : JD) (d : Nat) (Q : JO → JH → Prop) (r0 : Nat) (q0 : Nat) (s1 : Int32) (h : JH) : Prop :=
  q0 ≠ 0 ∧ (cX8_whole D d q0 s1 h (pV D h (fun h_2 => r0 ≠ 0 ∧ (cX8_b D d r0 (jfi h_2 238 r0) h_2 (pI D h_2 (fun v_8 h_6 => (v_8 = (83 : Int32) → W_X8_which_42 D d Q r0 v_8 r0 h_6) ∧ (¬ v_8 = (83 : Int32) → (¬ v_8 = (80 : Int32) → W_X8_which_47 D d Q r0 v_8 r0 (0 : Int32) h_6) ∧ (v_8 = (80 : Int32) → W_X8_which_42 D d Q r0 v_8 r0 h_6))) (jth Q)))) (jth Q)))
theorem w_X8_which_17 {D : JD} {d : Nat} {Q : JO → JH → Prop} {r0 : Nat} {q0 : Nat} {s1 : Int32} {h : JH} (w : W_X8_which_17 D d Q r0 q0 s1 h) : JW D (d + 1) mX8_which 17 [some (vR 41 r0), none] [vI s1, vR 41 q0] h Q := by
  unfold W_X8_which_17 at w
  obtain ⟨g_1, w⟩ := w
  refine jw_cV (st := []) (sa := [vR 41 q0, vI s1]) okX8_whole rfl rfl rfl rfl rfl rfl (jstp_virtual (sa := [vI s1]) (st := []) (k := 0) rfl rfl sX8_whole okX8_whole g_1 (one41.k g_1) rfl rfl) w (fun h_2 _ _ w => ?_)
  refine jw_aload_n (pc' := 21) rfl rfl ?_
  refine jw_aload_n (pc' := 22) rfl rfl ?_
  obtain ⟨g_5, w⟩ := w
  refine jw_getI (pc' := 25) (F := 238) rfl rfl rfl rfl g_5 ?_
  refine jw_cI (st := []) (sa := [vR 41 r0, vI (jfi h_2 238 r0)]) okX8_b rfl rfl rfl rfl rfl rfl (jstp_virtual (sa := [vI (jfi h_2 238 r0)]) (st := []) (k := 0) rfl rfl sX8_b okX8_b g_5 (one41.k g_5) rfl rfl) w (fun v_8 h_6 _ _ w => ?_)
  refine jw_istore_n (pc' := 29) (ls' := [some (vR 41 r0), some (vI v_8)]) rfl (by decide) rfl ?_
  refine jw_aload_n (pc' := 30) rfl rfl ?_
  refine jw_iload_n (pc' := 31) rfl rfl ?_
  refine jw_bipush (pc' := 33) (x := (83 : Int32)) rfl rfl ?_
  refine jw_icmp_eq (tgt := 42) (pc' := 36) rfl rfl (fun c_9 => ?_) (fun c_9 => ?_)
  · replace w := w.1 c_9
    exact w_X8_which_42 w
  · replace w := w.2 c_9
    refine jw_iload_n (pc' := 37) rfl rfl ?_
    refine jw_bipush (pc' := 39) (x := (80 : Int32)) rfl rfl ?_
    refine jw_icmp_ne (tgt := 46) (pc' := 42) rfl rfl (fun c_10 => ?_) (fun c_10 => ?_)
    · replace w := w.1 c_10
      refine jw_iconst (pc' := 47) (x := (0 : Int32)) rfl rfl ?_
      exact w_X8_which_47 w
    · replace w := w.2 c_10
      exact w_X8_which_42 w
def W_X8_which_0 (D : JD) (d : Nat) (Q : JO → JH → Prop) (r0 : Nat) (h : JH) : Prop :=
  r0 ≠ 0 ∧ (((jfi h 239 r0) ≤ (jfi h 238 r0) → W_X8_which_17 D d Q r0 r0 (0 : Int32) h) ∧ (¬ (jfi h 239 r0) ≤ (jfi h 238 r0) → W_X8_which_17 D d Q r0 r0 (1 : Int32) h))
theorem w_X8_which_0 {D : JD} {d : Nat} {Q : JO → JH → Prop} {r0 : Nat} {h : JH} (w : W_X8_which_0 D d Q r0 h) : JW D (d + 1) mX8_which 0 [some (vR 41 r0), none] [] h Q := by
  unfold W_X8_which_0 at w
  refine jw_aload_n (pc' := 1) rfl rfl ?_
  refine jw_aload_n (pc' := 2) rfl rfl ?_
  obtain ⟨g_1, w⟩ := w
  refine jw_getI (pc' := 5) (F := 238) rfl rfl rfl rfl g_1 ?_
  refine jw_aload_n (pc' := 6) rfl rfl ?_
  refine jw_getI (pc' := 9) (F := 239) rfl rfl rfl rfl g_1 ?_
  refine jw_icmp_ge (tgt := 16) (pc' := 12) rfl rfl (fun c_2 => ?_) (fun c_2 => ?_)
  · replace w := w.1 c_2
    refine jw_iconst (pc' := 17) (x := (0 : Int32)) rfl rfl ?_
    exact w_X8_which_17 w
  · replace w := w.2 c_2
    refine jw_iconst (pc' := 13) (x := (1 : Int32)) rfl rfl ?_
    refine jw_goto (pc' := 17) rfl rfl ?_
    exact w_X8_which_17 w
def T_X8_which (D : JD) (d : Nat) (Q : JO → JH → Prop) (r0 : Nat) (h : JH) : Prop := W_X8_which_0 D d Q r0 h
theorem t_X8_which {D : JD} {d : Nat} {Q : JO → JH → Prop} {r0 : Nat} {h : JH} (w : T_X8_which D d Q r0 h) : cX8_which D (d + 1) r0 h Q := by
  unfold T_X8_which at w
  unfold cX8_which
  exact w_X8_which_0 w
def W_X8_types_0 (D : JD) (d : Nat) (Q : JO → JH → Prop) (r0 : Nat) (r1 : Nat) (x2 : Int32) (h : JH) : Prop :=
  r0 ≠ 0 ∧ ∀ h_2 : JH, h_2 = wfr h 197 r0 r1 → (∀ h_4 : JH, h_4 = wfi h_2 198 r0 x2 → (Q (.inl none) h_4))
theorem w_X8_types_0 {D : JD} {d : Nat} {Q : JO → JH → Prop} {r0 : Nat} {r1 : Nat} {x2 : Int32} {h : JH} (w : W_X8_types_0 D d Q r0 r1 x2 h) : JW D (d + 1) mX8_types 0 [some (vR 41 r0), some (vR 68 r1), some (vI x2)] [] h Q := by
  unfold W_X8_types_0 at w
  refine jw_aload_n (pc' := 1) rfl rfl ?_
  refine jw_aload_n (pc' := 2) rfl rfl ?_
  obtain ⟨g_1, w⟩ := w
  refine jw_putR' (pc' := 5) (F := 197) rfl rfl rfl (Or.inr rfl) (Or.inl rfl) rfl rfl rfl g_1 (fun h_2 e_3 => ?_)
  replace w := w h_2 e_3
  refine jw_aload_n (pc' := 6) rfl rfl ?_
  refine jw_iload_n (pc' := 7) rfl rfl ?_
  refine jw_putI' (pc' := 10) (F := 198) rfl rfl rfl (Or.inr rfl) (Or.inl rfl) rfl (rfl) (rfl) rfl g_1 (fun h_4 e_5 => ?_)
  replace w := w h_4 e_5
  exact jw_return rfl rfl w
def T_X8_types (D : JD) (d : Nat) (Q : JO → JH → Prop) (r0 : Nat) (r1 : Nat) (x2 : Int32) (h : JH) : Prop := W_X8_types_0 D d Q r0 r1 x2 h
theorem t_X8_types {D : JD} {d : Nat} {Q : JO → JH → Prop} {r0 : Nat} {r1 : Nat} {x2 : Int32} {h : JH} (w : T_X8_types D d Q r0 r1 x2 h) : cX8_types D (d + 1) r0 r1 x2 h Q := by
  unfold T_X8_types at w
  unfold cX8_types
  exact w_X8_types_0 w
def W_X8_execute_281 (D : JD) (d : Nat) (Q : JO → JH → Prop) (h : JH) : Prop :=
  Q (.inl none) h
theorem w_X8_execute_281 {D : JD} {d : Nat} {Q : JO → JH → Prop} {h : JH} (w : W_X8_execute_281 D d Q h) : JW D (d + 1) mX8_execute 281 [none, none, none, none, none, none, none] [] h Q := by
  unfold W_X8_execute_281 at w
  exact jw_return rfl rfl w
def W_X8_execute_241 (D : JD) (d : Nat) (Q : JO → JH → Prop) (r0 : Nat) (r4 : Nat) (h : JH) : Prop :=
  r4 ≠ 0 ∧ ((jfr h 325 r4) ≠ 0 ∧ (((jfi h 258 (jfr h 325 r4)) ≤ (jfi h 326 r4) → r0 ≠ 0 ∧ (cX8_tag D d r0 (jcs D 335) (jfi h 258 (jfr h 325 r4)) h (pV D h (fun h_5 => W_X8_execute_281 D d Q h_5) (jth Q)))) ∧ (¬ (jfi h 258 (jfr h 325 r4)) ≤ (jfi h 326 r4) → r0 ≠ 0 ∧ (cX8_empty D d r0 (115 : Int32) h (pV D h (fun h_9 => W_X8_execute_281 D d Q h_9) (jth Q))))))
theorem w_X8_execute_241 {D : JD} {d : Nat} {Q : JO → JH → Prop} {r0 : Nat} {r4 : Nat} {h : JH} (w : W_X8_execute_241 D d Q r0 r4 h) : JW D (d + 1) mX8_execute 241 [some (vR 41 r0), none, none, none, some (vR 50 r4), none, none] [] h Q := by
  unfold W_X8_execute_241 at w
  refine jw_aload (pc' := 243) rfl rfl ?_
  obtain ⟨g_1, w⟩ := w
  refine jw_getI (pc' := 246) (F := 326) rfl rfl rfl rfl g_1 ?_
  refine jw_aload (pc' := 248) rfl rfl ?_
  refine jw_getR (pc' := 251) (F := 325) (t' := 121) rfl rfl rfl rfl rfl g_1 ?_
  obtain ⟨g_2, w⟩ := w
  refine jw_getI (pc' := 254) (F := 258) rfl rfl rfl rfl g_2 ?_
  refine jw_icmp_ge (tgt := 266) (pc' := 257) rfl rfl (fun c_3 => ?_) (fun c_3 => ?_)
  · replace w := w.1 c_3
    refine jw_aload_n (pc' := 267) rfl rfl ?_
    refine jw_ldcwS (pc' := 270) rfl rfl rfl rfl ?_
    refine jw_aload (pc' := 272) rfl rfl ?_
    refine jw_getR (pc' := 275) (F := 325) (t' := 121) rfl rfl rfl rfl rfl g_1 ?_
    refine jw_getI (pc' := 278) (F := 258) rfl rfl rfl rfl g_2 ?_
    obtain ⟨g_4, w⟩ := w
    refine jw_cV (st := []) (sa := [vR 41 r0, vR 51 (jcs D 335), vI (jfi h 258 (jfr h 325 r4))]) okX8_tag rfl rfl rfl rfl rfl rfl (jstp_virtual (sa := [vR 51 (jcs D 335), vI (jfi h 258 (jfr h 325 r4))]) (st := []) (k := 0) rfl rfl sX8_tag okX8_tag g_4 (one41.k g_4) rfl rfl) w (fun h_5 _ _ w => ?_)
    refine jw_gen (ls' := [none, none, none, none, none, none, none]) (st' := []) (trivial) (trivial) ?_
    exact w_X8_execute_281 w
  · replace w := w.2 c_3
    refine jw_aload_n (pc' := 258) rfl rfl ?_
    refine jw_bipush (pc' := 260) (x := (115 : Int32)) rfl rfl ?_
    obtain ⟨g_8, w⟩ := w
    refine jw_cV (st := []) (sa := [vR 41 r0, vI (115 : Int32)]) okX8_empty rfl rfl rfl rfl rfl rfl (jstp_virtual (sa := [vI (115 : Int32)]) (st := []) (k := 0) rfl rfl sX8_empty okX8_empty g_8 (one41.k g_8) rfl rfl) w (fun h_9 _ _ w => ?_)
    refine jw_goto (pc' := 281) rfl rfl ?_
    refine jw_gen (ls' := [none, none, none, none, none, none, none]) (st' := []) (trivial) (trivial) ?_
    exact w_X8_execute_281 w
def W_X8_execute_210 (D : JD) (d : Nat) (Q : JO → JH → Prop) (K184 : Nat → Int32 → Nat → Int32 → JH → Prop) (r0 : Nat) (x2 : Int32) (r4 : Nat) (x6 : Int32) (h : JH) : Prop :=
  r4 ≠ 0 ∧ (r0 ≠ 0 ∧ (cX8_data D d r0 (jfr h 325 r4) (jfi h 326 r4) h (pV D h (fun h_3 => ∀ h_6 : JH, h_6 = wfi h_3 326 r4 ((jfi h_3 326 r4) + (1 : Int32)) → (K184 r0 x2 r4 (x6 + (1 : Int32)) h_6)) (jth Q))))
theorem w_X8_execute_210 {D : JD} {d : Nat} {Q : JO → JH → Prop} {K184 : Nat → Int32 → Nat → Int32 → JH → Prop} {r0 : Nat} {x2 : Int32} {r4 : Nat} {x6 : Int32} {h : JH} (hK184 : ∀ (r0 : Nat) (x2 : Int32) (r4 : Nat) (x6 : Int32) (h : JH), K184 r0 x2 r4 x6 h → JW D (d + 1) mX8_execute 184 [some (vR 41 r0), none, some (vI x2), none, some (vR 50 r4), none, some (vI x6)] [] h Q) (w : W_X8_execute_210 D d Q K184 r0 x2 r4 x6 h) : JW D (d + 1) mX8_execute 210 [some (vR 41 r0), none, some (vI x2), none, some (vR 50 r4), none, some (vI x6)] [] h Q := by
  unfold W_X8_execute_210 at w
  refine jw_aload_n (pc' := 211) rfl rfl ?_
  refine jw_aload (pc' := 213) rfl rfl ?_
  obtain ⟨g_1, w⟩ := w
  refine jw_getR (pc' := 216) (F := 325) (t' := 121) rfl rfl rfl rfl rfl g_1 ?_
  refine jw_aload (pc' := 218) rfl rfl ?_
  refine jw_getI (pc' := 221) (F := 326) rfl rfl rfl rfl g_1 ?_
  obtain ⟨g_2, w⟩ := w
  refine jw_cV (st := []) (sa := [vR 41 r0, vR 121 (jfr h 325 r4), vI (jfi h 326 r4)]) okX8_data rfl rfl rfl rfl rfl rfl (jstp_virtual (sa := [vR 121 (jfr h 325 r4), vI (jfi h 326 r4)]) (st := []) (k := 0) rfl rfl sX8_data okX8_data g_2 (one41.k g_2) rfl rfl) w (fun h_3 _ _ w => ?_)
  refine jw_aload (pc' := 226) rfl rfl ?_
  refine jw_dup (pc' := 227) rfl rfl ?_
  refine jw_getI (pc' := 230) (F := 326) rfl rfl rfl rfl g_1 ?_
  refine jw_iconst (pc' := 231) (x := (1 : Int32)) rfl rfl ?_
  refine jw_iadd (pc' := 232) rfl ?_
  refine jw_putI' (pc' := 235) (F := 326) rfl rfl rfl (Or.inr rfl) (Or.inl rfl) rfl (rfl) (rfl) rfl g_1 (fun h_6 e_7 => ?_)
  replace w := w h_6 e_7
  refine jw_iinc (pc' := 238) (y := x6 + (1 : Int32)) (ls' := [some (vR 41 r0), none, some (vI x2), none, some (vR 50 r4), none, some (vI (x6 + (1 : Int32)))]) rfl (by decide) rfl rfl rfl ?_
  refine jw_goto (pc' := 184) rfl rfl ?_
  exact hK184 _ _ _ _ _ w
def W_X8_execute_184 (D : JD) (d : Nat) (Q : JO → JH → Prop) (K184 : Nat → Int32 → Nat → Int32 → JH → Prop) (r0 : Nat) (x2 : Int32) (r4 : Nat) (x6 : Int32) (h : JH) : Prop :=
  r4 ≠ 0 ∧ ((jfr h 325 r4) ≠ 0 ∧ (((jfi h 258 (jfr h 325 r4)) ≤ (jfi h 326 r4) → W_X8_execute_241 D d Q r0 r4 h) ∧ (¬ (jfi h 258 (jfr h 325 r4)) ≤ (jfi h 326 r4) → (x2 ≤ 0 → W_X8_execute_210 D d Q K184 r0 x2 r4 x6 h) ∧ (¬ x2 ≤ 0 → (x2 ≤ x6 → W_X8_execute_241 D d Q r0 r4 h) ∧ (¬ x2 ≤ x6 → W_X8_execute_210 D d Q K184 r0 x2 r4 x6 h)))))
theorem w_X8_execute_184 {D : JD} {d : Nat} {Q : JO → JH → Prop} {K184 : Nat → Int32 → Nat → Int32 → JH → Prop} {r0 : Nat} {x2 : Int32} {r4 : Nat} {x6 : Int32} {h : JH} (hK184 : ∀ (r0 : Nat) (x2 : Int32) (r4 : Nat) (x6 : Int32) (h : JH), K184 r0 x2 r4 x6 h → JW D (d + 1) mX8_execute 184 [some (vR 41 r0), none, some (vI x2), none, some (vR 50 r4), none, some (vI x6)] [] h Q) (w : W_X8_execute_184 D d Q K184 r0 x2 r4 x6 h) : JW D (d + 1) mX8_execute 184 [some (vR 41 r0), none, some (vI x2), none, some (vR 50 r4), none, some (vI x6)] [] h Q := by
  unfold W_X8_execute_184 at w
  refine jw_aload (pc' := 186) rfl rfl ?_
  obtain ⟨g_1, w⟩ := w
  refine jw_getI (pc' := 189) (F := 326) rfl rfl rfl rfl g_1 ?_
  refine jw_aload (pc' := 191) rfl rfl ?_
  refine jw_getR (pc' := 194) (F := 325) (t' := 121) rfl rfl rfl rfl rfl g_1 ?_
  obtain ⟨g_2, w⟩ := w
  refine jw_getI (pc' := 197) (F := 258) rfl rfl rfl rfl g_2 ?_
  refine jw_icmp_ge (tgt := 241) (pc' := 200) rfl rfl (fun c_3 => ?_) (fun c_3 => ?_)
  · replace w := w.1 c_3
    refine jw_gen (ls' := [some (vR 41 r0), none, none, none, some (vR 50 r4), none, none]) (st' := []) (And.intro (Or.inl rfl) (And.intro (Or.inl rfl) (trivial))) (trivial) ?_
    exact w_X8_execute_241 w
  · replace w := w.2 c_3
    refine jw_iload_n (pc' := 201) rfl rfl ?_
    refine jw_if_le (tgt := 210) (pc' := 204) rfl rfl (fun c_4 => ?_) (fun c_4 => ?_)
    · replace w := w.1 c_4
      exact w_X8_execute_210 hK184 w
    · replace w := w.2 c_4
      refine jw_iload (pc' := 206) rfl rfl ?_
      refine jw_iload_n (pc' := 207) rfl rfl ?_
      refine jw_icmp_ge (tgt := 241) (pc' := 210) rfl rfl (fun c_5 => ?_) (fun c_5 => ?_)
      · replace w := w.1 c_5
        refine jw_gen (ls' := [some (vR 41 r0), none, none, none, some (vR 50 r4), none, none]) (st' := []) (And.intro (Or.inl rfl) (And.intro (Or.inl rfl) (trivial))) (trivial) ?_
        exact w_X8_execute_241 w
      · replace w := w.2 c_5
        exact w_X8_execute_210 hK184 w
def L_X8_execute_184 (D : JD) (d : Nat) (Q : JO → JH → Prop) : Nat → Nat → Int32 → Nat → Int32 → JH → Prop
  | 0 => fun _ _ _ _ _ => False
  | n + 1 => fun r0 x2 r4 x6 h => W_X8_execute_184 D d Q (L_X8_execute_184 D d Q n) r0 x2 r4 x6 h
theorem l_X8_execute_184 {D : JD} {d : Nat} {Q : JO → JH → Prop} : ∀ (n : Nat) (r0 : Nat) (x2 : Int32) (r4 : Nat) (x6 : Int32) (h : JH), L_X8_execute_184 D d Q n r0 x2 r4 x6 h → JW D (d + 1) mX8_execute 184 [some (vR 41 r0), none, some (vI x2), none, some (vR 50 r4), none, some (vI x6)] [] h Q := by
  intro n
  induction n with
  | zero => intro _ _ _ _ _ w; exact w.elim
  | succ n ih => intro _ _ _ _ h w; exact w_X8_execute_184 ih w
def W_X8_execute_181 (D : JD) (d : Nat) (Q : JO → JH → Prop) (r0 : Nat) (x2 : Int32) (r4 : Nat) (h : JH) : Prop :=
  ∃ n, L_X8_execute_184 D d Q n r0 x2 r4 (0 : Int32) h
theorem w_X8_execute_181 {D : JD} {d : Nat} {Q : JO → JH → Prop} {r0 : Nat} {x2 : Int32} {r4 : Nat} {h : JH} (w : W_X8_execute_181 D d Q r0 x2 r4 h) : JW D (d + 1) mX8_execute 181 [some (vR 41 r0), none, some (vI x2), none, some (vR 50 r4), none, none] [] h Q := by
  unfold W_X8_execute_181 at w
  refine jw_iconst (pc' := 182) (x := (0 : Int32)) rfl rfl ?_
  refine jw_istore (pc' := 184) (ls' := [some (vR 41 r0), none, some (vI x2), none, some (vR 50 r4), none, some (vI (0 : Int32))]) rfl (by decide) rfl ?_
  obtain ⟨n, w⟩ := w
  exact l_X8_execute_184 n _ _ _ _ _ w
def W_X8_execute_116 (D : JD) (d : Nat) (Q : JO → JH → Prop) (r0 : Nat) (r4 : Nat) (r5 : Nat) (q0 : Nat) (s1 : Int32) (h : JH) : Prop :=
  q0 ≠ 0 ∧ (cX8_must D d q0 s1 (jcs D 343) h (pV D h (fun h_2 => r4 ≠ 0 ∧ ∀ h_6 : JH, h_6 = wfi h_2 324 r4 (1 : Int32) → (r0 ≠ 0 ∧ (cX8_act D d r0 r5 h_6 (pV D h_6 (fun h_9 => Q (.inl none) h_9) (jth Q))))) (jth Q)))
theorem w_X8_execute_116 {D : JD} {d : Nat} {Q : JO → JH → Prop} {r0 : Nat} {r4 : Nat} {r5 : Nat} {q0 : Nat} {s1 : Int32} {h : JH} (w : W_X8_execute_116 D d Q r0 r4 r5 q0 s1 h) : JW D (d + 1) mX8_execute 116 [some (vR 41 r0), none, none, none, some (vR 50 r4), some (vR 47 r5), none] [vI s1, vR 41 q0] h Q := by
  unfold W_X8_execute_116 at w
  refine jw_ldcwS (pc' := 119) rfl rfl rfl rfl ?_
  obtain ⟨g_1, w⟩ := w
  refine jw_cV (st := []) (sa := [vR 41 q0, vI s1, vR 51 (jcs D 343)]) okX8_must rfl rfl rfl rfl rfl rfl (jstp_virtual (sa := [vI s1, vR 51 (jcs D 343)]) (st := []) (k := 0) rfl rfl sX8_must okX8_must g_1 (one41.k g_1) rfl rfl) w (fun h_2 _ _ w => ?_)
  refine jw_aload (pc' := 124) rfl rfl ?_
  refine jw_iconst (pc' := 125) (x := (1 : Int32)) rfl rfl ?_
  obtain ⟨g_5, w⟩ := w
  refine jw_putI' (pc' := 128) (F := 324) rfl rfl rfl (Or.inr rfl) (Or.inl rfl) rfl (rfl) (rfl) rfl g_5 (fun h_6 e_7 => ?_)
  replace w := w h_6 e_7
  refine jw_aload_n (pc' := 129) rfl rfl ?_
  refine jw_aload (pc' := 131) rfl rfl ?_
  obtain ⟨g_8, w⟩ := w
  refine jw_cV (st := []) (sa := [vR 41 r0, vR 47 r5]) okX8_act rfl rfl rfl rfl rfl rfl (jstp_virtual (sa := [vR 47 r5]) (st := []) (k := 0) rfl rfl sX8_act okX8_act g_8 (one41.k g_8) rfl rfl) w (fun h_9 _ _ w => ?_)
  exact jw_return rfl rfl w
def W_X8_execute_30 (D : JD) (d : Nat) (Q : JO → JH → Prop) (r0 : Nat) (x2 : Int32) (x3 : Int32) (q0 : Nat) (s1 : Int32) (h : JH) : Prop :=
  q0 ≠ 0 ∧ (cX8_must D d q0 s1 (jcs D 342) h (pV D h (fun h_2 => r0 ≠ 0 ∧ ((jfr h_2 233 r0) ≠ 0 ∧ jin x3 (jln h_2 (jfr h_2 233 r0)) ∧ ((jar h_2 (jfr h_2 233 r0) (ixn x3)) ≠ 0 ∧ (((jfr h_2 320 (jar h_2 (jfr h_2 233 r0) (ixn x3))) ≠ 0 → cX8_allowed D d r0 (jfr h_2 320 (jar h_2 (jfr h_2 233 r0) (ixn x3))) h_2 (pV D h_2 (fun h_10 => cX8_types D d r0 (jfr h_10 321 (jar h_2 (jfr h_2 233 r0) (ixn x3))) (jfi h_10 323 (jar h_2 (jfr h_2 233 r0) (ixn x3))) h_10 (pV D h_10 (fun h_13 => ∀ h_16 : JH, h_16 = wfr h_13 203 r0 (jfr h_13 322 (jar h_2 (jfr h_2 233 r0) (ixn x3))) → (((jfi h_16 270 (jfr h_2 320 (jar h_2 (jfr h_2 233 r0) (ixn x3)))) = (8 : Int32) → (¬ (jfi h_16 324 (jar h_2 (jfr h_2 233 r0) (ixn x3))) = 0 → W_X8_execute_181 D d Q r0 x2 (jar h_2 (jfr h_2 233 r0) (ixn x3)) h_16) ∧ ((jfi h_16 324 (jar h_2 (jfr h_2 233 r0) (ixn x3))) = 0 → cX8_check D d r0 (jfr h_2 320 (jar h_2 (jfr h_2 233 r0) (ixn x3))) h_16 (pV D h_16 (fun h_20 => (jfr h_20 325 (jar h_2 (jfr h_2 233 r0) (ixn x3))) ≠ 0 ∧ ∀ h_24 : JH, h_24 = wfi h_20 259 (jfr h_20 325 (jar h_2 (jfr h_2 233 r0) (ixn x3))) (0 : Int32) → (cX8_select_2 D d r0 (jfr h_2 320 (jar h_2 (jfr h_2 233 r0) (ixn x3))) (jfr h_24 325 (jar h_2 (jfr h_2 233 r0) (ixn x3))) h_24 (pV D h_24 (fun h_26 => ∀ h_29 : JH, h_29 = wfi h_26 324 (jar h_2 (jfr h_2 233 r0) (ixn x3)) (1 : Int32) → (∀ h_31 : JH, h_31 = wfi h_29 326 (jar h_2 (jfr h_2 233 r0) (ixn x3)) (0 : Int32) → (W_X8_execute_181 D d Q r0 x2 (jar h_2 (jfr h_2 233 r0) (ixn x3)) h_31))) (jth Q)))) (jth Q)))) ∧ (¬ (jfi h_16 270 (jfr h_2 320 (jar h_2 (jfr h_2 233 r0) (ixn x3)))) = (8 : Int32) → (¬ (jfi h_16 324 (jar h_2 (jfr h_2 233 r0) (ixn x3))) = 0 → W_X8_execute_116 D d Q r0 (jar h_2 (jfr h_2 233 r0) (ixn x3)) (jfr h_2 320 (jar h_2 (jfr h_2 233 r0) (ixn x3))) r0 (0 : Int32) h_16) ∧ ((jfi h_16 324 (jar h_2 (jfr h_2 233 r0) (ixn x3))) = 0 → W_X8_execute_116 D d Q r0 (jar h_2 (jfr h_2 233 r0) (ixn x3)) (jfr h_2 320 (jar h_2 (jfr h_2 233 r0) (ixn x3))) r0 (1 : Int32) h_16)))) (jth Q))) (jth Q))) ∧ ((jfr h_2 320 (jar h_2 (jfr h_2 233 r0) (ixn x3))) = 0 → cX8_empty D d r0 (73 : Int32) h_2 (pV D h_2 (fun h_34 => Q (.inl none) h_34) (jth Q))))))) (jth Q)))
theorem w_X8_execute_30 {D : JD} {d : Nat} {Q : JO → JH → Prop} {r0 : Nat} {x2 : Int32} {x3 : Int32} {q0 : Nat} {s1 : Int32} {h : JH} (w : W_X8_execute_30 D d Q r0 x2 x3 q0 s1 h) : JW D (d + 1) mX8_execute 30 [some (vR 41 r0), none, some (vI x2), some (vI x3), none, none, none] [vI s1, vR 41 q0] h Q := by
  unfold W_X8_execute_30 at w
  refine jw_ldcwS (pc' := 33) rfl rfl rfl rfl ?_
  obtain ⟨g_1, w⟩ := w
  refine jw_cV (st := []) (sa := [vR 41 q0, vI s1, vR 51 (jcs D 342)]) okX8_must rfl rfl rfl rfl rfl rfl (jstp_virtual (sa := [vI s1, vR 51 (jcs D 342)]) (st := []) (k := 0) rfl rfl sX8_must okX8_must g_1 (one41.k g_1) rfl rfl) w (fun h_2 _ _ w => ?_)
  refine jw_aload_n (pc' := 37) rfl rfl ?_
  obtain ⟨g_5, w⟩ := w
  refine jw_getR (pc' := 40) (F := 233) (t' := 182) rfl rfl rfl rfl rfl g_5 ?_
  refine jw_iload_n (pc' := 41) rfl rfl ?_
  obtain ⟨g_6, w⟩ := w
  obtain ⟨g_7, w⟩ := w
  refine jw_aald (pc' := 42) (t' := 50) rfl rfl rfl rfl g_6 g_7.ix g_7.2 ?_
  refine jw_astore (pc' := 44) (ls' := [some (vR 41 r0), none, some (vI x2), some (vI x3), some (vR 50 (jar h_2 (jfr h_2 233 r0) (ixn x3))), none, none]) rfl (by decide) rfl ?_
  refine jw_aload (pc' := 46) rfl rfl ?_
  obtain ⟨g_8, w⟩ := w
  refine jw_getR (pc' := 49) (F := 320) (t' := 47) rfl rfl rfl rfl rfl g_8 ?_
  refine jw_astore (pc' := 51) (ls' := [some (vR 41 r0), none, some (vI x2), some (vI x3), some (vR 50 (jar h_2 (jfr h_2 233 r0) (ixn x3))), some (vR 47 (jfr h_2 320 (jar h_2 (jfr h_2 233 r0) (ixn x3)))), none]) rfl (by decide) rfl ?_
  refine jw_aload (pc' := 53) rfl rfl ?_
  refine jw_ifnonnull (tgt := 63) (pc' := 56) rfl rfl (fun c_9 => ?_) (fun c_9 => ?_)
  · replace w := w.1 c_9
    refine jw_aload_n (pc' := 64) rfl rfl ?_
    refine jw_aload (pc' := 66) rfl rfl ?_
    refine jw_cV (st := []) (sa := [vR 41 r0, vR 47 (jfr h_2 320 (jar h_2 (jfr h_2 233 r0) (ixn x3)))]) okX8_allowed rfl rfl rfl rfl rfl rfl (jstp_virtual (sa := [vR 47 (jfr h_2 320 (jar h_2 (jfr h_2 233 r0) (ixn x3)))]) (st := []) (k := 0) rfl rfl sX8_allowed okX8_allowed g_5 (one41.k g_5) rfl rfl) w (fun h_10 _ _ w => ?_)
    refine jw_aload_n (pc' := 70) rfl rfl ?_
    refine jw_aload (pc' := 72) rfl rfl ?_
    refine jw_getR (pc' := 75) (F := 321) (t' := 217) rfl rfl rfl rfl rfl g_8 ?_
    refine jw_aload (pc' := 77) rfl rfl ?_
    refine jw_getI (pc' := 80) (F := 323) rfl rfl rfl rfl g_8 ?_
    refine jw_cV (st := []) (sa := [vR 41 r0, vR 217 (jfr h_10 321 (jar h_2 (jfr h_2 233 r0) (ixn x3))), vI (jfi h_10 323 (jar h_2 (jfr h_2 233 r0) (ixn x3)))]) okX8_types rfl rfl rfl rfl rfl rfl (jstp_virtual (sa := [vR 217 (jfr h_10 321 (jar h_2 (jfr h_2 233 r0) (ixn x3))), vI (jfi h_10 323 (jar h_2 (jfr h_2 233 r0) (ixn x3)))]) (st := []) (k := 0) rfl rfl sX8_types okX8_types g_5 (one41.k g_5) rfl rfl) w (fun h_13 _ _ w => ?_)
    refine jw_aload_n (pc' := 84) rfl rfl ?_
    refine jw_aload (pc' := 86) rfl rfl ?_
    refine jw_getR (pc' := 89) (F := 322) (t' := 218) rfl rfl rfl rfl rfl g_8 ?_
    refine jw_putR' (pc' := 92) (F := 203) rfl rfl rfl (Or.inr rfl) (Or.inl rfl) rfl rfl rfl g_5 (fun h_16 e_17 => ?_)
    replace w := w h_16 e_17
    refine jw_aload (pc' := 94) rfl rfl ?_
    refine jw_getI (pc' := 97) (F := 270) rfl rfl rfl rfl c_9 ?_
    refine jw_bipush (pc' := 99) (x := (8 : Int32)) rfl rfl ?_
    refine jw_icmp_eq (tgt := 135) (pc' := 102) rfl rfl (fun c_18 => ?_) (fun c_18 => ?_)
    · replace w := w.1 c_18
      refine jw_aload (pc' := 137) rfl rfl ?_
      refine jw_getI (pc' := 140) (F := 324) rfl rfl rfl rfl g_8 ?_
      refine jw_if_ne (tgt := 181) (pc' := 143) rfl rfl (fun c_19 => ?_) (fun c_19 => ?_)
      · replace w := w.1 c_19
        refine jw_gen (ls' := [some (vR 41 r0), none, some (vI x2), none, some (vR 50 (jar h_2 (jfr h_2 233 r0) (ixn x3))), none, none]) (st' := []) (And.intro (Or.inl rfl) (And.intro (Or.inl rfl) (And.intro (Or.inl rfl) (trivial)))) (trivial) ?_
        exact w_X8_execute_181 w
      · replace w := w.2 c_19
        refine jw_aload_n (pc' := 144) rfl rfl ?_
        refine jw_aload (pc' := 146) rfl rfl ?_
        refine jw_cV (st := []) (sa := [vR 41 r0, vR 47 (jfr h_2 320 (jar h_2 (jfr h_2 233 r0) (ixn x3)))]) okX8_check rfl rfl rfl rfl rfl rfl (jstp_virtual (sa := [vR 47 (jfr h_2 320 (jar h_2 (jfr h_2 233 r0) (ixn x3)))]) (st := []) (k := 0) rfl rfl sX8_check okX8_check g_5 (one41.k g_5) rfl rfl) w (fun h_20 _ _ w => ?_)
        refine jw_aload (pc' := 151) rfl rfl ?_
        refine jw_getR (pc' := 154) (F := 325) (t' := 121) rfl rfl rfl rfl rfl g_8 ?_
        refine jw_iconst (pc' := 155) (x := (0 : Int32)) rfl rfl ?_
        obtain ⟨g_23, w⟩ := w
        refine jw_putI' (pc' := 158) (F := 259) rfl rfl rfl (Or.inr rfl) (Or.inl rfl) rfl (rfl) (rfl) rfl g_23 (fun h_24 e_25 => ?_)
        replace w := w h_24 e_25
        refine jw_aload_n (pc' := 159) rfl rfl ?_
        refine jw_aload (pc' := 161) rfl rfl ?_
        refine jw_aload (pc' := 163) rfl rfl ?_
        refine jw_getR (pc' := 166) (F := 325) (t' := 121) rfl rfl rfl rfl rfl g_8 ?_
        refine jw_cV (st := []) (sa := [vR 41 r0, vR 47 (jfr h_2 320 (jar h_2 (jfr h_2 233 r0) (ixn x3))), vR 121 (jfr h_24 325 (jar h_2 (jfr h_2 233 r0) (ixn x3)))]) okX8_select_2 rfl rfl rfl rfl rfl rfl (jstp_virtual (sa := [vR 47 (jfr h_2 320 (jar h_2 (jfr h_2 233 r0) (ixn x3))), vR 121 (jfr h_24 325 (jar h_2 (jfr h_2 233 r0) (ixn x3)))]) (st := []) (k := 0) rfl rfl sX8_select_2 okX8_select_2 g_5 (one41.k g_5) rfl rfl) w (fun h_26 _ _ w => ?_)
        refine jw_aload (pc' := 171) rfl rfl ?_
        refine jw_iconst (pc' := 172) (x := (1 : Int32)) rfl rfl ?_
        refine jw_putI' (pc' := 175) (F := 324) rfl rfl rfl (Or.inr rfl) (Or.inl rfl) rfl (rfl) (rfl) rfl g_8 (fun h_29 e_30 => ?_)
        replace w := w h_29 e_30
        refine jw_aload (pc' := 177) rfl rfl ?_
        refine jw_iconst (pc' := 178) (x := (0 : Int32)) rfl rfl ?_
        refine jw_putI' (pc' := 181) (F := 326) rfl rfl rfl (Or.inr rfl) (Or.inl rfl) rfl (rfl) (rfl) rfl g_8 (fun h_31 e_32 => ?_)
        replace w := w h_31 e_32
        refine jw_gen (ls' := [some (vR 41 r0), none, some (vI x2), none, some (vR 50 (jar h_2 (jfr h_2 233 r0) (ixn x3))), none, none]) (st' := []) (And.intro (Or.inl rfl) (And.intro (Or.inl rfl) (And.intro (Or.inl rfl) (trivial)))) (trivial) ?_
        exact w_X8_execute_181 w
    · replace w := w.2 c_18
      refine jw_aload_n (pc' := 103) rfl rfl ?_
      refine jw_aload (pc' := 105) rfl rfl ?_
      refine jw_getI (pc' := 108) (F := 324) rfl rfl rfl rfl g_8 ?_
      refine jw_if_ne (tgt := 115) (pc' := 111) rfl rfl (fun c_33 => ?_) (fun c_33 => ?_)
      · replace w := w.1 c_33
        refine jw_iconst (pc' := 116) (x := (0 : Int32)) rfl rfl ?_
        refine jw_gen (ls' := [some (vR 41 r0), none, none, none, some (vR 50 (jar h_2 (jfr h_2 233 r0) (ixn x3))), some (vR 47 (jfr h_2 320 (jar h_2 (jfr h_2 233 r0) (ixn x3)))), none]) (st' := [vI (0 : Int32), vR 41 r0]) (And.intro (Or.inl rfl) (And.intro (Or.inl rfl) (And.intro (Or.inl rfl) (trivial)))) (And.intro (Or.inl rfl) (And.intro (Or.inl rfl) (trivial))) ?_
        exact w_X8_execute_116 w
      · replace w := w.2 c_33
        refine jw_iconst (pc' := 112) (x := (1 : Int32)) rfl rfl ?_
        refine jw_goto (pc' := 116) rfl rfl ?_
        refine jw_gen (ls' := [some (vR 41 r0), none, none, none, some (vR 50 (jar h_2 (jfr h_2 233 r0) (ixn x3))), some (vR 47 (jfr h_2 320 (jar h_2 (jfr h_2 233 r0) (ixn x3)))), none]) (st' := [vI (1 : Int32), vR 41 r0]) (And.intro (Or.inl rfl) (And.intro (Or.inl rfl) (And.intro (Or.inl rfl) (trivial)))) (And.intro (Or.inl rfl) (And.intro (Or.inl rfl) (trivial))) ?_
        exact w_X8_execute_116 w
  · replace w := w.2 c_9
    refine jw_aload_n (pc' := 57) rfl rfl ?_
    refine jw_bipush (pc' := 59) (x := (73 : Int32)) rfl rfl ?_
    refine jw_cV (st := []) (sa := [vR 41 r0, vI (73 : Int32)]) okX8_empty rfl rfl rfl rfl rfl rfl (jstp_virtual (sa := [vI (73 : Int32)]) (st := []) (k := 0) rfl rfl sX8_empty okX8_empty g_5 (one41.k g_5) rfl rfl) w (fun h_34 _ _ w => ?_)
    exact jw_return rfl rfl w
def W_X8_execute_0 (D : JD) (d : Nat) (Q : JO → JH → Prop) (r0 : Nat) (h : JH) : Prop :=
  r0 ≠ 0 ∧ (cX8_stringOf D d r0 h (pR D h 64 (fun v_4 h_2 => cX8_read4 D d r0 h_2 (pI D h_2 (fun v_7 h_5 => cX8_ended D d r0 h_5 (pV D h_5 (fun h_8 => cX8_findPortal D d r0 v_4 h_8 (pI D h_8 (fun v_13 h_11 => (v_13 < 0 → W_X8_execute_30 D d Q r0 v_7 v_13 r0 (0 : Int32) h_11) ∧ (¬ v_13 < 0 → W_X8_execute_30 D d Q r0 v_7 v_13 r0 (1 : Int32) h_11)) (jth Q))) (jth Q))) (jth Q))) (jth Q)))
theorem w_X8_execute_0 {D : JD} {d : Nat} {Q : JO → JH → Prop} {r0 : Nat} {h : JH} (w : W_X8_execute_0 D d Q r0 h) : JW D (d + 1) mX8_execute 0 [some (vR 41 r0), none, none, none, none, none, none] [] h Q := by
  unfold W_X8_execute_0 at w
  refine jw_aload_n (pc' := 1) rfl rfl ?_
  obtain ⟨g_1, w⟩ := w
  refine jw_cR (st := []) (sa := [vR 41 r0]) okX8_stringOf rfl rfl rfl rfl rfl rfl (jstp_virtual (sa := []) (st := []) (k := 0) rfl rfl sX8_stringOf okX8_stringOf g_1 (one41.k g_1) rfl rfl) w (fun v_4 h_2 _ _ _ w => ?_)
  refine jw_astore_n (pc' := 5) (ls' := [some (vR 41 r0), some (vR 64 v_4), none, none, none, none, none]) rfl (by decide) rfl ?_
  refine jw_aload_n (pc' := 6) rfl rfl ?_
  refine jw_cI (st := []) (sa := [vR 41 r0]) okX8_read4 rfl rfl rfl rfl rfl rfl (jstp_virtual (sa := []) (st := []) (k := 0) rfl rfl sX8_read4 okX8_read4 g_1 (one41.k g_1) rfl rfl) w (fun v_7 h_5 _ _ w => ?_)
  refine jw_istore_n (pc' := 10) (ls' := [some (vR 41 r0), some (vR 64 v_4), some (vI v_7), none, none, none, none]) rfl (by decide) rfl ?_
  refine jw_aload_n (pc' := 11) rfl rfl ?_
  refine jw_cV (st := []) (sa := [vR 41 r0]) okX8_ended rfl rfl rfl rfl rfl rfl (jstp_virtual (sa := []) (st := []) (k := 0) rfl rfl sX8_ended okX8_ended g_1 (one41.k g_1) rfl rfl) w (fun h_8 _ _ w => ?_)
  refine jw_aload_n (pc' := 15) rfl rfl ?_
  refine jw_aload_n (pc' := 16) rfl rfl ?_
  refine jw_cI (st := []) (sa := [vR 41 r0, vR 64 v_4]) okX8_findPortal rfl rfl rfl rfl rfl rfl (jstp_virtual (sa := [vR 64 v_4]) (st := []) (k := 0) rfl rfl sX8_findPortal okX8_findPortal g_1 (one41.k g_1) rfl rfl) w (fun v_13 h_11 _ _ w => ?_)
  refine jw_istore_n (pc' := 20) (ls' := [some (vR 41 r0), some (vR 64 v_4), some (vI v_7), some (vI v_13), none, none, none]) rfl (by decide) rfl ?_
  refine jw_aload_n (pc' := 21) rfl rfl ?_
  refine jw_iload_n (pc' := 22) rfl rfl ?_
  refine jw_if_lt (tgt := 29) (pc' := 25) rfl rfl (fun c_14 => ?_) (fun c_14 => ?_)
  · replace w := w.1 c_14
    refine jw_iconst (pc' := 30) (x := (0 : Int32)) rfl rfl ?_
    refine jw_gen (ls' := [some (vR 41 r0), none, some (vI v_7), some (vI v_13), none, none, none]) (st' := [vI (0 : Int32), vR 41 r0]) (And.intro (Or.inl rfl) (And.intro (Or.inl rfl) (And.intro (Or.inl rfl) (trivial)))) (And.intro (Or.inl rfl) (And.intro (Or.inl rfl) (trivial))) ?_
    exact w_X8_execute_30 w
  · replace w := w.2 c_14
    refine jw_iconst (pc' := 26) (x := (1 : Int32)) rfl rfl ?_
    refine jw_goto (pc' := 30) rfl rfl ?_
    refine jw_gen (ls' := [some (vR 41 r0), none, some (vI v_7), some (vI v_13), none, none, none]) (st' := [vI (1 : Int32), vR 41 r0]) (And.intro (Or.inl rfl) (And.intro (Or.inl rfl) (And.intro (Or.inl rfl) (trivial)))) (And.intro (Or.inl rfl) (And.intro (Or.inl rfl) (trivial))) ?_
    exact w_X8_execute_30 w
def T_X8_execute (D : JD) (d : Nat) (Q : JO → JH → Prop) (r0 : Nat) (h : JH) : Prop := W_X8_execute_0 D d Q r0 h
theorem t_X8_execute {D : JD} {d : Nat} {Q : JO → JH → Prop} {r0 : Nat} {h : JH} (w : T_X8_execute D d Q r0 h) : cX8_execute D (d + 1) r0 h Q := by
  unfold T_X8_execute at w
  unfold cX8_execute
  exact w_X8_execute_0 w
def W_X8_drop_183 (D : JD) (d : Nat) (Q : JO → JH → Prop) (r0 : Nat) (h : JH) : Prop :=
  r0 ≠ 0 ∧ (cX8_empty D d r0 (51 : Int32) h (pV D h (fun h_2 => Q (.inl none) h_2) (jth Q)))
theorem w_X8_drop_183 {D : JD} {d : Nat} {Q : JO → JH → Prop} {r0 : Nat} {h : JH} (w : W_X8_drop_183 D d Q r0 h) : JW D (d + 1) mX8_drop 183 [some (vR 41 r0), none, none, none, none, none] [] h Q := by
  unfold W_X8_drop_183 at w
  refine jw_aload_n (pc' := 184) rfl rfl ?_
  refine jw_bipush (pc' := 186) (x := (51 : Int32)) rfl rfl ?_
  obtain ⟨g_1, w⟩ := w
  refine jw_cV (st := []) (sa := [vR 41 r0, vI (51 : Int32)]) okX8_empty rfl rfl rfl rfl rfl rfl (jstp_virtual (sa := [vI (51 : Int32)]) (st := []) (k := 0) rfl rfl sX8_empty okX8_empty g_1 (one41.k g_1) rfl rfl) w (fun h_2 _ _ w => ?_)
  exact jw_return rfl rfl w
def W_X8_drop_141 (D : JD) (d : Nat) (Q : JO → JH → Prop) (K141 : Nat → Nat → Int32 → JH → Prop) (r0 : Nat) (r4 : Nat) (x5 : Int32) (h : JH) : Prop :=
  r0 ≠ 0 ∧ (((jfi h 234 r0) ≤ x5 → (jfr h 233 r0) ≠ 0 ∧ jin (jfi h 234 r0) (jln h (jfr h 233 r0)) ∧ ∀ h_5 : JH, h_5 = war h (jfr h 233 r0) (ixn (jfi h 234 r0)) r4 → (W_X8_drop_183 D d Q r0 h_5)) ∧ (¬ (jfi h 234 r0) ≤ x5 → (jfr h 233 r0) ≠ 0 ∧ jin (x5 + (1 : Int32)) (jln h (jfr h 233 r0)) ∧ (jin x5 (jln h (jfr h 233 r0)) ∧ ∀ h_10 : JH, h_10 = war h (jfr h 233 r0) (ixn x5) (jar h (jfr h 233 r0) (ixn (x5 + (1 : Int32)))) → (K141 r0 r4 (x5 + (1 : Int32)) h_10))))
theorem w_X8_drop_141 {D : JD} {d : Nat} {Q : JO → JH → Prop} {K141 : Nat → Nat → Int32 → JH → Prop} {r0 : Nat} {r4 : Nat} {x5 : Int32} {h : JH} (hK141 : ∀ (r0 : Nat) (r4 : Nat) (x5 : Int32) (h : JH), K141 r0 r4 x5 h → JW D (d + 1) mX8_drop 141 [some (vR 41 r0), none, none, none, some (vR 50 r4), some (vI x5)] [] h Q) (w : W_X8_drop_141 D d Q K141 r0 r4 x5 h) : JW D (d + 1) mX8_drop 141 [some (vR 41 r0), none, none, none, some (vR 50 r4), some (vI x5)] [] h Q := by
  unfold W_X8_drop_141 at w
  refine jw_iload (pc' := 143) rfl rfl ?_
  refine jw_aload_n (pc' := 144) rfl rfl ?_
  obtain ⟨g_1, w⟩ := w
  refine jw_getI (pc' := 147) (F := 234) rfl rfl rfl rfl g_1 ?_
  refine jw_icmp_ge (tgt := 172) (pc' := 150) rfl rfl (fun c_2 => ?_) (fun c_2 => ?_)
  · replace w := w.1 c_2
    refine jw_aload_n (pc' := 173) rfl rfl ?_
    refine jw_getR (pc' := 176) (F := 233) (t' := 182) rfl rfl rfl rfl rfl g_1 ?_
    refine jw_aload_n (pc' := 177) rfl rfl ?_
    refine jw_getI (pc' := 180) (F := 234) rfl rfl rfl rfl g_1 ?_
    refine jw_aload (pc' := 182) rfl rfl ?_
    obtain ⟨g_3, w⟩ := w
    obtain ⟨g_4, w⟩ := w
    refine jw_aast' (pc' := 183) rfl rfl rfl rfl rfl rfl g_3 g_4 (fun h_5 e_6 => ?_)
    replace w := w h_5 e_6
    refine jw_gen (ls' := [some (vR 41 r0), none, none, none, none, none]) (st' := []) (And.intro (Or.inl rfl) (trivial)) (trivial) ?_
    exact w_X8_drop_183 w
  · replace w := w.2 c_2
    refine jw_aload_n (pc' := 151) rfl rfl ?_
    refine jw_getR (pc' := 154) (F := 233) (t' := 182) rfl rfl rfl rfl rfl g_1 ?_
    refine jw_iload (pc' := 156) rfl rfl ?_
    refine jw_aload_n (pc' := 157) rfl rfl ?_
    refine jw_getR (pc' := 160) (F := 233) (t' := 182) rfl rfl rfl rfl rfl g_1 ?_
    refine jw_iload (pc' := 162) rfl rfl ?_
    refine jw_iconst (pc' := 163) (x := (1 : Int32)) rfl rfl ?_
    refine jw_iadd (pc' := 164) rfl ?_
    obtain ⟨g_7, w⟩ := w
    obtain ⟨g_8, w⟩ := w
    refine jw_aald (pc' := 165) (t' := 50) rfl rfl rfl rfl g_7 g_8.ix g_8.2 ?_
    obtain ⟨g_9, w⟩ := w
    refine jw_aast' (pc' := 166) rfl rfl rfl rfl rfl rfl g_7 g_9 (fun h_10 e_11 => ?_)
    replace w := w h_10 e_11
    refine jw_iinc (pc' := 169) (y := x5 + (1 : Int32)) (ls' := [some (vR 41 r0), none, none, none, some (vR 50 r4), some (vI (x5 + (1 : Int32)))]) rfl (by decide) rfl rfl rfl ?_
    refine jw_goto (pc' := 141) rfl rfl ?_
    exact hK141 _ _ _ _ w
def L_X8_drop_141 (D : JD) (d : Nat) (Q : JO → JH → Prop) : Nat → Nat → Nat → Int32 → JH → Prop
  | 0 => fun _ _ _ _ => False
  | n + 1 => fun r0 r4 x5 h => W_X8_drop_141 D d Q (L_X8_drop_141 D d Q n) r0 r4 x5 h
theorem l_X8_drop_141 {D : JD} {d : Nat} {Q : JO → JH → Prop} : ∀ (n : Nat) (r0 : Nat) (r4 : Nat) (x5 : Int32) (h : JH), L_X8_drop_141 D d Q n r0 r4 x5 h → JW D (d + 1) mX8_drop 141 [some (vR 41 r0), none, none, none, some (vR 50 r4), some (vI x5)] [] h Q := by
  intro n
  induction n with
  | zero => intro _ _ _ _ w; exact w.elim
  | succ n ih => intro _ _ _ h w; exact w_X8_drop_141 ih w
def W_X8_drop_116 (D : JD) (d : Nat) (Q : JO → JH → Prop) (r0 : Nat) (x3 : Int32) (h : JH) : Prop :=
  (x3 < 0 → W_X8_drop_183 D d Q r0 h) ∧ (¬ x3 < 0 → r0 ≠ 0 ∧ ((jfr h 233 r0) ≠ 0 ∧ jin x3 (jln h (jfr h 233 r0)) ∧ (∀ h_5 : JH, h_5 = wfi h 234 r0 ((jfi h 234 r0) - (1 : Int32)) → (∃ n, L_X8_drop_141 D d Q n r0 (jar h (jfr h 233 r0) (ixn x3)) x3 h_5))))
theorem w_X8_drop_116 {D : JD} {d : Nat} {Q : JO → JH → Prop} {r0 : Nat} {x3 : Int32} {h : JH} (w : W_X8_drop_116 D d Q r0 x3 h) : JW D (d + 1) mX8_drop 116 [some (vR 41 r0), none, none, some (vI x3), none, none] [] h Q := by
  unfold W_X8_drop_116 at w
  refine jw_iload_n (pc' := 117) rfl rfl ?_
  refine jw_if_lt (tgt := 183) (pc' := 120) rfl rfl (fun c_1 => ?_) (fun c_1 => ?_)
  · replace w := w.1 c_1
    refine jw_gen (ls' := [some (vR 41 r0), none, none, none, none, none]) (st' := []) (And.intro (Or.inl rfl) (trivial)) (trivial) ?_
    exact w_X8_drop_183 w
  · replace w := w.2 c_1
    refine jw_aload_n (pc' := 121) rfl rfl ?_
    obtain ⟨g_2, w⟩ := w
    refine jw_getR (pc' := 124) (F := 233) (t' := 182) rfl rfl rfl rfl rfl g_2 ?_
    refine jw_iload_n (pc' := 125) rfl rfl ?_
    obtain ⟨g_3, w⟩ := w
    obtain ⟨g_4, w⟩ := w
    refine jw_aald (pc' := 126) (t' := 50) rfl rfl rfl rfl g_3 g_4.ix g_4.2 ?_
    refine jw_astore (pc' := 128) (ls' := [some (vR 41 r0), none, none, some (vI x3), some (vR 50 (jar h (jfr h 233 r0) (ixn x3))), none]) rfl (by decide) rfl ?_
    refine jw_aload_n (pc' := 129) rfl rfl ?_
    refine jw_dup (pc' := 130) rfl rfl ?_
    refine jw_getI (pc' := 133) (F := 234) rfl rfl rfl rfl g_2 ?_
    refine jw_iconst (pc' := 134) (x := (1 : Int32)) rfl rfl ?_
    refine jw_isub (pc' := 135) rfl ?_
    refine jw_putI' (pc' := 138) (F := 234) rfl rfl rfl (Or.inr rfl) (Or.inl rfl) rfl (rfl) (rfl) rfl g_2 (fun h_5 e_6 => ?_)
    replace w := w h_5 e_6
    refine jw_iload_n (pc' := 139) rfl rfl ?_
    refine jw_istore (pc' := 141) (ls' := [some (vR 41 r0), none, none, some (vI x3), some (vR 50 (jar h (jfr h 233 r0) (ixn x3))), some (vI x3)]) rfl (by decide) rfl ?_
    refine jw_gen (ls' := [some (vR 41 r0), none, none, none, some (vR 50 (jar h (jfr h 233 r0) (ixn x3))), some (vI x3)]) (st' := []) (And.intro (Or.inl rfl) (And.intro (Or.inl rfl) (And.intro (Or.inl rfl) (trivial)))) (trivial) ?_
    obtain ⟨n, w⟩ := w
    exact l_X8_drop_141 n _ _ _ _ w
def W_X8_drop_71 (D : JD) (d : Nat) (Q : JO → JH → Prop) (K71 : Nat → Nat → Int32 → JH → Prop) (r0 : Nat) (r4 : Nat) (x5 : Int32) (h : JH) : Prop :=
  r0 ≠ 0 ∧ (((jfi h 232 r0) ≤ x5 → (jfr h 231 r0) ≠ 0 ∧ jin (jfi h 232 r0) (jln h (jfr h 231 r0)) ∧ ∀ h_5 : JH, h_5 = war h (jfr h 231 r0) (ixn (jfi h 232 r0)) r4 → (W_X8_drop_183 D d Q r0 h_5)) ∧ (¬ (jfi h 232 r0) ≤ x5 → (jfr h 231 r0) ≠ 0 ∧ jin (x5 + (1 : Int32)) (jln h (jfr h 231 r0)) ∧ (jin x5 (jln h (jfr h 231 r0)) ∧ ∀ h_10 : JH, h_10 = war h (jfr h 231 r0) (ixn x5) (jar h (jfr h 231 r0) (ixn (x5 + (1 : Int32)))) → (K71 r0 r4 (x5 + (1 : Int32)) h_10))))
theorem w_X8_drop_71 {D : JD} {d : Nat} {Q : JO → JH → Prop} {K71 : Nat → Nat → Int32 → JH → Prop} {r0 : Nat} {r4 : Nat} {x5 : Int32} {h : JH} (hK71 : ∀ (r0 : Nat) (r4 : Nat) (x5 : Int32) (h : JH), K71 r0 r4 x5 h → JW D (d + 1) mX8_drop 71 [some (vR 41 r0), none, none, none, some (vR 49 r4), some (vI x5)] [] h Q) (w : W_X8_drop_71 D d Q K71 r0 r4 x5 h) : JW D (d + 1) mX8_drop 71 [some (vR 41 r0), none, none, none, some (vR 49 r4), some (vI x5)] [] h Q := by
  unfold W_X8_drop_71 at w
  refine jw_iload (pc' := 73) rfl rfl ?_
  refine jw_aload_n (pc' := 74) rfl rfl ?_
  obtain ⟨g_1, w⟩ := w
  refine jw_getI (pc' := 77) (F := 232) rfl rfl rfl rfl g_1 ?_
  refine jw_icmp_ge (tgt := 102) (pc' := 80) rfl rfl (fun c_2 => ?_) (fun c_2 => ?_)
  · replace w := w.1 c_2
    refine jw_aload_n (pc' := 103) rfl rfl ?_
    refine jw_getR (pc' := 106) (F := 231) (t' := 181) rfl rfl rfl rfl rfl g_1 ?_
    refine jw_aload_n (pc' := 107) rfl rfl ?_
    refine jw_getI (pc' := 110) (F := 232) rfl rfl rfl rfl g_1 ?_
    refine jw_aload (pc' := 112) rfl rfl ?_
    obtain ⟨g_3, w⟩ := w
    obtain ⟨g_4, w⟩ := w
    refine jw_aast' (pc' := 113) rfl rfl rfl rfl rfl rfl g_3 g_4 (fun h_5 e_6 => ?_)
    replace w := w h_5 e_6
    refine jw_goto (pc' := 183) rfl rfl ?_
    refine jw_gen (ls' := [some (vR 41 r0), none, none, none, none, none]) (st' := []) (And.intro (Or.inl rfl) (trivial)) (trivial) ?_
    exact w_X8_drop_183 w
  · replace w := w.2 c_2
    refine jw_aload_n (pc' := 81) rfl rfl ?_
    refine jw_getR (pc' := 84) (F := 231) (t' := 181) rfl rfl rfl rfl rfl g_1 ?_
    refine jw_iload (pc' := 86) rfl rfl ?_
    refine jw_aload_n (pc' := 87) rfl rfl ?_
    refine jw_getR (pc' := 90) (F := 231) (t' := 181) rfl rfl rfl rfl rfl g_1 ?_
    refine jw_iload (pc' := 92) rfl rfl ?_
    refine jw_iconst (pc' := 93) (x := (1 : Int32)) rfl rfl ?_
    refine jw_iadd (pc' := 94) rfl ?_
    obtain ⟨g_7, w⟩ := w
    obtain ⟨g_8, w⟩ := w
    refine jw_aald (pc' := 95) (t' := 49) rfl rfl rfl rfl g_7 g_8.ix g_8.2 ?_
    obtain ⟨g_9, w⟩ := w
    refine jw_aast' (pc' := 96) rfl rfl rfl rfl rfl rfl g_7 g_9 (fun h_10 e_11 => ?_)
    replace w := w h_10 e_11
    refine jw_iinc (pc' := 99) (y := x5 + (1 : Int32)) (ls' := [some (vR 41 r0), none, none, none, some (vR 49 r4), some (vI (x5 + (1 : Int32)))]) rfl (by decide) rfl rfl rfl ?_
    refine jw_goto (pc' := 71) rfl rfl ?_
    exact hK71 _ _ _ _ w
def L_X8_drop_71 (D : JD) (d : Nat) (Q : JO → JH → Prop) : Nat → Nat → Nat → Int32 → JH → Prop
  | 0 => fun _ _ _ _ => False
  | n + 1 => fun r0 r4 x5 h => W_X8_drop_71 D d Q (L_X8_drop_71 D d Q n) r0 r4 x5 h
theorem l_X8_drop_71 {D : JD} {d : Nat} {Q : JO → JH → Prop} : ∀ (n : Nat) (r0 : Nat) (r4 : Nat) (x5 : Int32) (h : JH), L_X8_drop_71 D d Q n r0 r4 x5 h → JW D (d + 1) mX8_drop 71 [some (vR 41 r0), none, none, none, some (vR 49 r4), some (vI x5)] [] h Q := by
  intro n
  induction n with
  | zero => intro _ _ _ _ w; exact w.elim
  | succ n ih => intro _ _ _ h w; exact w_X8_drop_71 ih w
def W_X8_drop_41 (D : JD) (d : Nat) (Q : JO → JH → Prop) (r0 : Nat) (x1 : Int32) (s0 : Int32) (h : JH) : Prop :=
  (s0 < 0 → W_X8_drop_116 D d Q r0 s0 h) ∧ (¬ s0 < 0 → (x1 = 0 → W_X8_drop_116 D d Q r0 s0 h) ∧ (¬ x1 = 0 → r0 ≠ 0 ∧ ((jfr h 231 r0) ≠ 0 ∧ jin s0 (jln h (jfr h 231 r0)) ∧ (∀ h_6 : JH, h_6 = wfi h 232 r0 ((jfi h 232 r0) - (1 : Int32)) → (∃ n, L_X8_drop_71 D d Q n r0 (jar h (jfr h 231 r0) (ixn s0)) s0 h_6)))))
theorem w_X8_drop_41 {D : JD} {d : Nat} {Q : JO → JH → Prop} {r0 : Nat} {x1 : Int32} {s0 : Int32} {h : JH} (w : W_X8_drop_41 D d Q r0 x1 s0 h) : JW D (d + 1) mX8_drop 41 [some (vR 41 r0), some (vI x1), none, none, none, none] [vI s0] h Q := by
  unfold W_X8_drop_41 at w
  refine jw_istore_n (pc' := 42) (ls' := [some (vR 41 r0), some (vI x1), none, some (vI s0), none, none]) rfl (by decide) rfl ?_
  refine jw_iload_n (pc' := 43) rfl rfl ?_
  refine jw_if_lt (tgt := 116) (pc' := 46) rfl rfl (fun c_1 => ?_) (fun c_1 => ?_)
  · replace w := w.1 c_1
    refine jw_gen (ls' := [some (vR 41 r0), none, none, some (vI s0), none, none]) (st' := []) (And.intro (Or.inl rfl) (And.intro (Or.inl rfl) (trivial))) (trivial) ?_
    exact w_X8_drop_116 w
  · replace w := w.2 c_1
    refine jw_iload_n (pc' := 47) rfl rfl ?_
    refine jw_if_eq (tgt := 116) (pc' := 50) rfl rfl (fun c_2 => ?_) (fun c_2 => ?_)
    · replace w := w.1 c_2
      refine jw_gen (ls' := [some (vR 41 r0), none, none, some (vI s0), none, none]) (st' := []) (And.intro (Or.inl rfl) (And.intro (Or.inl rfl) (trivial))) (trivial) ?_
      exact w_X8_drop_116 w
    · replace w := w.2 c_2
      refine jw_aload_n (pc' := 51) rfl rfl ?_
      obtain ⟨g_3, w⟩ := w
      refine jw_getR (pc' := 54) (F := 231) (t' := 181) rfl rfl rfl rfl rfl g_3 ?_
      refine jw_iload_n (pc' := 55) rfl rfl ?_
      obtain ⟨g_4, w⟩ := w
      obtain ⟨g_5, w⟩ := w
      refine jw_aald (pc' := 56) (t' := 49) rfl rfl rfl rfl g_4 g_5.ix g_5.2 ?_
      refine jw_astore (pc' := 58) (ls' := [some (vR 41 r0), some (vI x1), none, some (vI s0), some (vR 49 (jar h (jfr h 231 r0) (ixn s0))), none]) rfl (by decide) rfl ?_
      refine jw_aload_n (pc' := 59) rfl rfl ?_
      refine jw_dup (pc' := 60) rfl rfl ?_
      refine jw_getI (pc' := 63) (F := 232) rfl rfl rfl rfl g_3 ?_
      refine jw_iconst (pc' := 64) (x := (1 : Int32)) rfl rfl ?_
      refine jw_isub (pc' := 65) rfl ?_
      refine jw_putI' (pc' := 68) (F := 232) rfl rfl rfl (Or.inr rfl) (Or.inl rfl) rfl (rfl) (rfl) rfl g_3 (fun h_6 e_7 => ?_)
      replace w := w h_6 e_7
      refine jw_iload_n (pc' := 69) rfl rfl ?_
      refine jw_istore (pc' := 71) (ls' := [some (vR 41 r0), some (vI x1), none, some (vI s0), some (vR 49 (jar h (jfr h 231 r0) (ixn s0))), some (vI s0)]) rfl (by decide) rfl ?_
      refine jw_gen (ls' := [some (vR 41 r0), none, none, none, some (vR 49 (jar h (jfr h 231 r0) (ixn s0))), some (vI s0)]) (st' := []) (And.intro (Or.inl rfl) (And.intro (Or.inl rfl) (And.intro (Or.inl rfl) (trivial)))) (trivial) ?_
      obtain ⟨n, w⟩ := w
      exact l_X8_drop_71 n _ _ _ _ w
def W_X8_drop_14 (D : JD) (d : Nat) (Q : JO → JH → Prop) (r0 : Nat) (s0 : Int32) (h : JH) : Prop :=
  r0 ≠ 0 ∧ (cX8_stringOf D d r0 h (pR D h 64 (fun v_4 h_2 => cX8_ended D d r0 h_2 (pV D h_2 (fun h_5 => (s0 = 0 → cX8_findPortal D d r0 v_4 h_5 (pI D h_5 (fun v_11 h_9 => W_X8_drop_41 D d Q r0 s0 v_11 h_9) (jth Q))) ∧ (¬ s0 = 0 → cX8_findPrepared D d r0 v_4 h_5 (pI D h_5 (fun v_14 h_12 => W_X8_drop_41 D d Q r0 s0 v_14 h_12) (jth Q)))) (jth Q))) (jth Q)))
theorem w_X8_drop_14 {D : JD} {d : Nat} {Q : JO → JH → Prop} {r0 : Nat} {s0 : Int32} {h : JH} (w : W_X8_drop_14 D d Q r0 s0 h) : JW D (d + 1) mX8_drop 14 [some (vR 41 r0), none, none, none, none, none] [vI s0] h Q := by
  unfold W_X8_drop_14 at w
  refine jw_istore_n (pc' := 15) (ls' := [some (vR 41 r0), some (vI s0), none, none, none, none]) rfl (by decide) rfl ?_
  refine jw_aload_n (pc' := 16) rfl rfl ?_
  obtain ⟨g_1, w⟩ := w
  refine jw_cR (st := []) (sa := [vR 41 r0]) okX8_stringOf rfl rfl rfl rfl rfl rfl (jstp_virtual (sa := []) (st := []) (k := 0) rfl rfl sX8_stringOf okX8_stringOf g_1 (one41.k g_1) rfl rfl) w (fun v_4 h_2 _ _ _ w => ?_)
  refine jw_astore_n (pc' := 20) (ls' := [some (vR 41 r0), some (vI s0), some (vR 64 v_4), none, none, none]) rfl (by decide) rfl ?_
  refine jw_aload_n (pc' := 21) rfl rfl ?_
  refine jw_cV (st := []) (sa := [vR 41 r0]) okX8_ended rfl rfl rfl rfl rfl rfl (jstp_virtual (sa := []) (st := []) (k := 0) rfl rfl sX8_ended okX8_ended g_1 (one41.k g_1) rfl rfl) w (fun h_5 _ _ w => ?_)
  refine jw_iload_n (pc' := 25) rfl rfl ?_
  refine jw_if_eq (tgt := 36) (pc' := 28) rfl rfl (fun c_8 => ?_) (fun c_8 => ?_)
  · replace w := w.1 c_8
    refine jw_aload_n (pc' := 37) rfl rfl ?_
    refine jw_aload_n (pc' := 38) rfl rfl ?_
    refine jw_cI (st := []) (sa := [vR 41 r0, vR 64 v_4]) okX8_findPortal rfl rfl rfl rfl rfl rfl (jstp_virtual (sa := [vR 64 v_4]) (st := []) (k := 0) rfl rfl sX8_findPortal okX8_findPortal g_1 (one41.k g_1) rfl rfl) w (fun v_11 h_9 _ _ w => ?_)
    refine jw_gen (ls' := [some (vR 41 r0), some (vI s0), none, none, none, none]) (st' := [vI v_11]) (And.intro (Or.inl rfl) (And.intro (Or.inl rfl) (trivial))) (And.intro (Or.inl rfl) (trivial)) ?_
    exact w_X8_drop_41 w
  · replace w := w.2 c_8
    refine jw_aload_n (pc' := 29) rfl rfl ?_
    refine jw_aload_n (pc' := 30) rfl rfl ?_
    refine jw_cI (st := []) (sa := [vR 41 r0, vR 64 v_4]) okX8_findPrepared rfl rfl rfl rfl rfl rfl (jstp_virtual (sa := [vR 64 v_4]) (st := []) (k := 0) rfl rfl sX8_findPrepared okX8_findPrepared g_1 (one41.k g_1) rfl rfl) w (fun v_14 h_12 _ _ w => ?_)
    refine jw_goto (pc' := 41) rfl rfl ?_
    refine jw_gen (ls' := [some (vR 41 r0), some (vI s0), none, none, none, none]) (st' := [vI v_14]) (And.intro (Or.inl rfl) (And.intro (Or.inl rfl) (trivial))) (And.intro (Or.inl rfl) (trivial)) ?_
    exact w_X8_drop_41 w
def W_X8_drop_0 (D : JD) (d : Nat) (Q : JO → JH → Prop) (r0 : Nat) (h : JH) : Prop :=
  r0 ≠ 0 ∧ (cX8_which D d r0 h (pI D h (fun v_4 h_2 => (¬ v_4 = (83 : Int32) → W_X8_drop_14 D d Q r0 (0 : Int32) h_2) ∧ (v_4 = (83 : Int32) → W_X8_drop_14 D d Q r0 (1 : Int32) h_2)) (jth Q)))
theorem w_X8_drop_0 {D : JD} {d : Nat} {Q : JO → JH → Prop} {r0 : Nat} {h : JH} (w : W_X8_drop_0 D d Q r0 h) : JW D (d + 1) mX8_drop 0 [some (vR 41 r0), none, none, none, none, none] [] h Q := by
  unfold W_X8_drop_0 at w
  refine jw_aload_n (pc' := 1) rfl rfl ?_
  obtain ⟨g_1, w⟩ := w
  refine jw_cI (st := []) (sa := [vR 41 r0]) okX8_which rfl rfl rfl rfl rfl rfl (jstp_virtual (sa := []) (st := []) (k := 0) rfl rfl sX8_which okX8_which g_1 (one41.k g_1) rfl rfl) w (fun v_4 h_2 _ _ w => ?_)
  refine jw_bipush (pc' := 6) (x := (83 : Int32)) rfl rfl ?_
  refine jw_icmp_ne (tgt := 13) (pc' := 9) rfl rfl (fun c_5 => ?_) (fun c_5 => ?_)
  · replace w := w.1 c_5
    refine jw_iconst (pc' := 14) (x := (0 : Int32)) rfl rfl ?_
    exact w_X8_drop_14 w
  · replace w := w.2 c_5
    refine jw_iconst (pc' := 10) (x := (1 : Int32)) rfl rfl ?_
    refine jw_goto (pc' := 14) rfl rfl ?_
    exact w_X8_drop_14 w
def T_X8_drop (D : JD) (d : Nat) (Q : JO → JH → Prop) (r0 : Nat) (h : JH) : Prop := W_X8_drop_0 D d Q r0 h
theorem t_X8_drop {D : JD} {d : Nat} {Q : JO → JH → Prop} {r0 : Nat} {h : JH} (w : T_X8_drop D d Q r0 h) : cX8_drop D (d + 1) r0 h Q := by
  unfold T_X8_drop at w
  unfold cX8_drop
  exact w_X8_drop_0 w
def W_X8_missed_20 (D : JD) (d : Nat) (Q : JO → JH → Prop) (r0 : Nat) (h : JH) : Prop :=
  r0 ≠ 0 ∧ (cX8_shut D d r0 h (pV D h (fun h_2 => Q (.inl none) h_2) (jth Q)))
theorem w_X8_missed_20 {D : JD} {d : Nat} {Q : JO → JH → Prop} {r0 : Nat} {h : JH} (w : W_X8_missed_20 D d Q r0 h) : JW D (d + 1) mX8_missed 20 [some (vR 41 r0), none] [] h Q := by
  unfold W_X8_missed_20 at w
  refine jw_aload_n (pc' := 21) rfl rfl ?_
  obtain ⟨g_1, w⟩ := w
  refine jw_cV (st := []) (sa := [vR 41 r0]) okX8_shut rfl rfl rfl rfl rfl rfl (jstp_virtual (sa := []) (st := []) (k := 0) rfl rfl sX8_shut okX8_shut g_1 (one41.k g_1) rfl rfl) w (fun h_2 _ _ w => ?_)
  exact jw_return rfl rfl w
def W_X8_missed_48 (D : JD) (d : Nat) (Q : JO → JH → Prop) (h : JH) : Prop :=
  Q (.inl none) h
theorem w_X8_missed_48 {D : JD} {d : Nat} {Q : JO → JH → Prop} {h : JH} (w : W_X8_missed_48 D d Q h) : JW D (d + 1) mX8_missed 48 [none, none] [] h Q := by
  unfold W_X8_missed_48 at w
  exact jw_return rfl rfl w
def W_X8_missed_0 (D : JD) (d : Nat) (Q : JO → JH → Prop) (r0 : Nat) (r1 : Nat) (h : JH) : Prop :=
  r0 ≠ 0 ∧ (cX8_tell D d r0 r1 h (pV D h (fun h_2 => ((jfi h_2 228 r0) = 0 → W_X8_missed_20 D d Q r0 h_2) ∧ (¬ (jfi h_2 228 r0) = 0 → (¬ (jfi h_2 228 r0) = (1 : Int32) → cX8_undo D d r0 h_2 (pV D h_2 (fun h_7 => ((jfi h_7 240 r0) = 0 → ∀ h_11 : JH, h_11 = wfi h_7 229 r0 (1 : Int32) → (W_X8_missed_48 D d Q h_11)) ∧ (¬ (jfi h_7 240 r0) = 0 → cX8_endAsk D d r0 h_7 (pV D h_7 (fun h_13 => W_X8_missed_48 D d Q h_13) (jth Q)))) (jth Q))) ∧ ((jfi h_2 228 r0) = (1 : Int32) → W_X8_missed_20 D d Q r0 h_2))) (jth Q)))
theorem w_X8_missed_0 {D : JD} {d : Nat} {Q : JO → JH → Prop} {r0 : Nat} {r1 : Nat} {h : JH} (w : W_X8_missed_0 D d Q r0 r1 h) : JW D (d + 1) mX8_missed 0 [some (vR 41 r0), some (vR 42 r1)] [] h Q := by
  unfold W_X8_missed_0 at w
  refine jw_aload_n (pc' := 1) rfl rfl ?_
  refine jw_aload_n (pc' := 2) rfl rfl ?_
  obtain ⟨g_1, w⟩ := w
  refine jw_cV (st := []) (sa := [vR 41 r0, vR 42 r1]) okX8_tell rfl rfl rfl rfl rfl rfl (jstp_virtual (sa := [vR 42 r1]) (st := []) (k := 0) rfl rfl sX8_tell okX8_tell g_1 (one41.k g_1) rfl rfl) w (fun h_2 _ _ w => ?_)
  refine jw_aload_n (pc' := 6) rfl rfl ?_
  refine jw_getI (pc' := 9) (F := 228) rfl rfl rfl rfl g_1 ?_
  refine jw_if_eq (tgt := 20) (pc' := 12) rfl rfl (fun c_5 => ?_) (fun c_5 => ?_)
  · replace w := w.1 c_5
    refine jw_gen (ls' := [some (vR 41 r0), none]) (st' := []) (And.intro (Or.inl rfl) (trivial)) (trivial) ?_
    exact w_X8_missed_20 w
  · replace w := w.2 c_5
    refine jw_aload_n (pc' := 13) rfl rfl ?_
    refine jw_getI (pc' := 16) (F := 228) rfl rfl rfl rfl g_1 ?_
    refine jw_iconst (pc' := 17) (x := (1 : Int32)) rfl rfl ?_
    refine jw_icmp_ne (tgt := 25) (pc' := 20) rfl rfl (fun c_6 => ?_) (fun c_6 => ?_)
    · replace w := w.1 c_6
      refine jw_aload_n (pc' := 26) rfl rfl ?_
      refine jw_cV (st := []) (sa := [vR 41 r0]) okX8_undo rfl rfl rfl rfl rfl rfl (jstp_virtual (sa := []) (st := []) (k := 0) rfl rfl sX8_undo okX8_undo g_1 (one41.k g_1) rfl rfl) w (fun h_7 _ _ w => ?_)
      refine jw_aload_n (pc' := 30) rfl rfl ?_
      refine jw_getI (pc' := 33) (F := 240) rfl rfl rfl rfl g_1 ?_
      refine jw_if_eq (tgt := 43) (pc' := 36) rfl rfl (fun c_10 => ?_) (fun c_10 => ?_)
      · replace w := w.1 c_10
        refine jw_aload_n (pc' := 44) rfl rfl ?_
        refine jw_iconst (pc' := 45) (x := (1 : Int32)) rfl rfl ?_
        refine jw_putI' (pc' := 48) (F := 229) rfl rfl rfl (Or.inr rfl) (Or.inl rfl) rfl (rfl) (rfl) rfl g_1 (fun h_11 e_12 => ?_)
        replace w := w h_11 e_12
        refine jw_gen (ls' := [none, none]) (st' := []) (trivial) (trivial) ?_
        exact w_X8_missed_48 w
      · replace w := w.2 c_10
        refine jw_aload_n (pc' := 37) rfl rfl ?_
        refine jw_cV (st := []) (sa := [vR 41 r0]) okX8_endAsk rfl rfl rfl rfl rfl rfl (jstp_virtual (sa := []) (st := []) (k := 0) rfl rfl sX8_endAsk okX8_endAsk g_1 (one41.k g_1) rfl rfl) w (fun h_13 _ _ w => ?_)
        refine jw_goto (pc' := 48) rfl rfl ?_
        refine jw_gen (ls' := [none, none]) (st' := []) (trivial) (trivial) ?_
        exact w_X8_missed_48 w
    · replace w := w.2 c_6
      refine jw_gen (ls' := [some (vR 41 r0), none]) (st' := []) (And.intro (Or.inl rfl) (trivial)) (trivial) ?_
      exact w_X8_missed_20 w
def T_X8_missed (D : JD) (d : Nat) (Q : JO → JH → Prop) (r0 : Nat) (r1 : Nat) (h : JH) : Prop := W_X8_missed_0 D d Q r0 r1 h
theorem t_X8_missed {D : JD} {d : Nat} {Q : JO → JH → Prop} {r0 : Nat} {r1 : Nat} {h : JH} (w : T_X8_missed D d Q r0 r1 h) : cX8_missed D (d + 1) r0 r1 h Q := by
  unfold T_X8_missed at w
  unfold cX8_missed
  exact w_X8_missed_0 w
def W_X8_tell_65 (D : JD) (d : Nat) (Q : JO → JH → Prop) (r0 : Nat) (h : JH) : Prop :=
  r0 ≠ 0 ∧ (cX8_say D d r0 (0 : Int32) h (pV D h (fun h_2 => cX8_close D d r0 h_2 (pV D h_2 (fun h_5 => Q (.inl none) h_5) (jth Q))) (jth Q)))
theorem w_X8_tell_65 {D : JD} {d : Nat} {Q : JO → JH → Prop} {r0 : Nat} {h : JH} (w : W_X8_tell_65 D d Q r0 h) : JW D (d + 1) mX8_tell 65 [some (vR 41 r0), none] [] h Q := by
  unfold W_X8_tell_65 at w
  refine jw_aload_n (pc' := 66) rfl rfl ?_
  refine jw_iconst (pc' := 67) (x := (0 : Int32)) rfl rfl ?_
  obtain ⟨g_1, w⟩ := w
  refine jw_cV (st := []) (sa := [vR 41 r0, vI (0 : Int32)]) okX8_say rfl rfl rfl rfl rfl rfl (jstp_virtual (sa := [vI (0 : Int32)]) (st := []) (k := 0) rfl rfl sX8_say okX8_say g_1 (one41.k g_1) rfl rfl) w (fun h_2 _ _ w => ?_)
  refine jw_aload_n (pc' := 71) rfl rfl ?_
  refine jw_cV (st := []) (sa := [vR 41 r0]) okX8_close rfl rfl rfl rfl rfl rfl (jstp_virtual (sa := []) (st := []) (k := 0) rfl rfl sX8_close okX8_close g_1 (one41.k g_1) rfl rfl) w (fun h_5 _ _ w => ?_)
  exact jw_return rfl rfl w
def W_X8_tell_0 (D : JD) (d : Nat) (Q : JO → JH → Prop) (r0 : Nat) (r1 : Nat) (h : JH) : Prop :=
  r0 ≠ 0 ∧ (cX8_begin D d r0 (69 : Int32) h (pV D h (fun h_2 => cX8_say D d r0 (83 : Int32) h_2 (pV D h_2 (fun h_5 => cX8_words D d r0 (jcs D 344) h_5 (pV D h_5 (fun h_8 => cX8_say D d r0 (67 : Int32) h_8 (pV D h_8 (fun h_11 => r1 ≠ 0 ∧ (cX8_words D d r0 (jfr h_11 245 r1) h_11 (pV D h_11 (fun h_15 => (jfr h_15 245 r1) ≠ 0 ∧ (cJ5_equals D d (jfr h_15 245 r1) (jcs D 236) h_15 (pI D h_15 (fun v_21 h_19 => (v_21 = 0 → W_X8_tell_65 D d Q r0 h_19) ∧ (¬ v_21 = 0 → cX8_say D d r0 (80 : Int32) h_19 (pV D h_19 (fun h_23 => cX8_spell D d r0 (Int32.toInt64 (jfi h_23 246 r1)) h_23 (pV D h_23 (fun h_26 => cX8_say D d r0 (0 : Int32) h_26 (pV D h_26 (fun h_29 => W_X8_tell_65 D d Q r0 h_29) (jth Q))) (jth Q))) (jth Q)))) (jth Q)))) (jth Q)))) (jth Q))) (jth Q))) (jth Q))) (jth Q)))
theorem w_X8_tell_0 {D : JD} {d : Nat} {Q : JO → JH → Prop} {r0 : Nat} {r1 : Nat} {h : JH} (w : W_X8_tell_0 D d Q r0 r1 h) : JW D (d + 1) mX8_tell 0 [some (vR 41 r0), some (vR 42 r1)] [] h Q := by
  unfold W_X8_tell_0 at w
  refine jw_aload_n (pc' := 1) rfl rfl ?_
  refine jw_bipush (pc' := 3) (x := (69 : Int32)) rfl rfl ?_
  obtain ⟨g_1, w⟩ := w
  refine jw_cV (st := []) (sa := [vR 41 r0, vI (69 : Int32)]) okX8_begin rfl rfl rfl rfl rfl rfl (jstp_virtual (sa := [vI (69 : Int32)]) (st := []) (k := 0) rfl rfl sX8_begin okX8_begin g_1 (one41.k g_1) rfl rfl) w (fun h_2 _ _ w => ?_)
  refine jw_aload_n (pc' := 7) rfl rfl ?_
  refine jw_bipush (pc' := 9) (x := (83 : Int32)) rfl rfl ?_
  refine jw_cV (st := []) (sa := [vR 41 r0, vI (83 : Int32)]) okX8_say rfl rfl rfl rfl rfl rfl (jstp_virtual (sa := [vI (83 : Int32)]) (st := []) (k := 0) rfl rfl sX8_say okX8_say g_1 (one41.k g_1) rfl rfl) w (fun h_5 _ _ w => ?_)
  refine jw_aload_n (pc' := 13) rfl rfl ?_
  refine jw_ldcwS (pc' := 16) rfl rfl rfl rfl ?_
  refine jw_cV (st := []) (sa := [vR 41 r0, vR 51 (jcs D 344)]) okX8_words rfl rfl rfl rfl rfl rfl (jstp_virtual (sa := [vR 51 (jcs D 344)]) (st := []) (k := 0) rfl rfl sX8_words okX8_words g_1 (one41.k g_1) rfl rfl) w (fun h_8 _ _ w => ?_)
  refine jw_aload_n (pc' := 20) rfl rfl ?_
  refine jw_bipush (pc' := 22) (x := (67 : Int32)) rfl rfl ?_
  refine jw_cV (st := []) (sa := [vR 41 r0, vI (67 : Int32)]) okX8_say rfl rfl rfl rfl rfl rfl (jstp_virtual (sa := [vI (67 : Int32)]) (st := []) (k := 0) rfl rfl sX8_say okX8_say g_1 (one41.k g_1) rfl rfl) w (fun h_11 _ _ w => ?_)
  refine jw_aload_n (pc' := 26) rfl rfl ?_
  refine jw_aload_n (pc' := 27) rfl rfl ?_
  obtain ⟨g_14, w⟩ := w
  refine jw_getR (pc' := 30) (F := 245) (t' := 64) rfl rfl rfl rfl rfl g_14 ?_
  refine jw_cV (st := []) (sa := [vR 41 r0, vR 64 (jfr h_11 245 r1)]) okX8_words rfl rfl rfl rfl rfl rfl (jstp_virtual (sa := [vR 64 (jfr h_11 245 r1)]) (st := []) (k := 0) rfl rfl sX8_words okX8_words g_1 (one41.k g_1) rfl rfl) w (fun h_15 _ _ w => ?_)
  refine jw_aload_n (pc' := 34) rfl rfl ?_
  refine jw_getR (pc' := 37) (F := 245) (t' := 64) rfl rfl rfl rfl rfl g_14 ?_
  refine jw_ldcS (pc' := 39) rfl rfl rfl rfl ?_
  obtain ⟨g_18, w⟩ := w
  refine jw_cI (st := []) (sa := [vR 64 (jfr h_15 245 r1), vR 51 (jcs D 236)]) okJ5_equals rfl rfl rfl rfl rfl rfl (jstp_virtual (sa := [vR 51 (jcs D 236)]) (st := []) (k := 0) rfl rfl sJ5_equals okJ5_equals g_18 (one64.k g_18) rfl rfl) w (fun v_21 h_19 _ _ w => ?_)
  refine jw_if_eq (tgt := 65) (pc' := 45) rfl rfl (fun c_22 => ?_) (fun c_22 => ?_)
  · replace w := w.1 c_22
    refine jw_gen (ls' := [some (vR 41 r0), none]) (st' := []) (And.intro (Or.inl rfl) (trivial)) (trivial) ?_
    exact w_X8_tell_65 w
  · replace w := w.2 c_22
    refine jw_aload_n (pc' := 46) rfl rfl ?_
    refine jw_bipush (pc' := 48) (x := (80 : Int32)) rfl rfl ?_
    refine jw_cV (st := []) (sa := [vR 41 r0, vI (80 : Int32)]) okX8_say rfl rfl rfl rfl rfl rfl (jstp_virtual (sa := [vI (80 : Int32)]) (st := []) (k := 0) rfl rfl sX8_say okX8_say g_1 (one41.k g_1) rfl rfl) w (fun h_23 _ _ w => ?_)
    refine jw_aload_n (pc' := 52) rfl rfl ?_
    refine jw_aload_n (pc' := 53) rfl rfl ?_
    refine jw_getI (pc' := 56) (F := 246) rfl rfl rfl rfl g_14 ?_
    refine jw_i2l (pc' := 57) rfl ?_
    refine jw_cV (st := []) (sa := [vR 41 r0, vL (Int32.toInt64 (jfi h_23 246 r1))]) okX8_spell rfl rfl rfl rfl rfl rfl (jstp_virtual (sa := [vL (Int32.toInt64 (jfi h_23 246 r1))]) (st := []) (k := 0) rfl rfl sX8_spell okX8_spell g_1 (one41.k g_1) rfl rfl) w (fun h_26 _ _ w => ?_)
    refine jw_aload_n (pc' := 61) rfl rfl ?_
    refine jw_iconst (pc' := 62) (x := (0 : Int32)) rfl rfl ?_
    refine jw_cV (st := []) (sa := [vR 41 r0, vI (0 : Int32)]) okX8_say rfl rfl rfl rfl rfl rfl (jstp_virtual (sa := [vI (0 : Int32)]) (st := []) (k := 0) rfl rfl sX8_say okX8_say g_1 (one41.k g_1) rfl rfl) w (fun h_29 _ _ w => ?_)
    refine jw_gen (ls' := [some (vR 41 r0), none]) (st' := []) (And.intro (Or.inl rfl) (trivial)) (trivial) ?_
    exact w_X8_tell_65 w
def T_X8_tell (D : JD) (d : Nat) (Q : JO → JH → Prop) (r0 : Nat) (r1 : Nat) (h : JH) : Prop := W_X8_tell_0 D d Q r0 r1 h
theorem t_X8_tell {D : JD} {d : Nat} {Q : JO → JH → Prop} {r0 : Nat} {r1 : Nat} {h : JH} (w : T_X8_tell D d Q r0 r1 h) : cX8_tell D (d + 1) r0 r1 h Q := by
  unfold T_X8_tell at w
  unfold cX8_tell
  exact w_X8_tell_0 w
def W_X8_undo_27 (D : JD) (d : Nat) (Q : JO → JH → Prop) (h : JH) : Prop :=
  Q (.inl none) h
theorem w_X8_undo_27 {D : JD} {d : Nat} {Q : JO → JH → Prop} {h : JH} (w : W_X8_undo_27 D d Q h) : JW D (d + 1) mX8_undo 27 [none] [] h Q := by
  unfold W_X8_undo_27 at w
  exact jw_return rfl rfl w
def W_X8_undo_0 (D : JD) (d : Nat) (Q : JO → JH → Prop) (r0 : Nat) (h : JH) : Prop :=
  r0 ≠ 0 ∧ ((¬ (jfi h 228 r0) = (2 : Int32) → ∀ h_3 : JH, h_3 = wfi h 228 r0 (4 : Int32) → (W_X8_undo_27 D d Q h_3)) ∧ ((jfi h 228 r0) = (2 : Int32) → (jfr h 178 r0) ≠ 0 ∧ (cX10_take D d (jfr h 178 r0) (jfr h 179 r0) h (pV D h (fun h_6 => W_X8_undo_27 D d Q h_6) (jth Q)))))
theorem w_X8_undo_0 {D : JD} {d : Nat} {Q : JO → JH → Prop} {r0 : Nat} {h : JH} (w : W_X8_undo_0 D d Q r0 h) : JW D (d + 1) mX8_undo 0 [some (vR 41 r0)] [] h Q := by
  unfold W_X8_undo_0 at w
  refine jw_aload_n (pc' := 1) rfl rfl ?_
  obtain ⟨g_1, w⟩ := w
  refine jw_getI (pc' := 4) (F := 228) rfl rfl rfl rfl g_1 ?_
  refine jw_iconst (pc' := 5) (x := (2 : Int32)) rfl rfl ?_
  refine jw_icmp_ne (tgt := 22) (pc' := 8) rfl rfl (fun c_2 => ?_) (fun c_2 => ?_)
  · replace w := w.1 c_2
    refine jw_aload_n (pc' := 23) rfl rfl ?_
    refine jw_iconst (pc' := 24) (x := (4 : Int32)) rfl rfl ?_
    refine jw_putI' (pc' := 27) (F := 228) rfl rfl rfl (Or.inr rfl) (Or.inl rfl) rfl (rfl) (rfl) rfl g_1 (fun h_3 e_4 => ?_)
    replace w := w h_3 e_4
    refine jw_gen (ls' := [none]) (st' := []) (trivial) (trivial) ?_
    exact w_X8_undo_27 w
  · replace w := w.2 c_2
    refine jw_aload_n (pc' := 9) rfl rfl ?_
    refine jw_getR (pc' := 12) (F := 178) (t' := 116) rfl rfl rfl rfl rfl g_1 ?_
    refine jw_aload_n (pc' := 13) rfl rfl ?_
    refine jw_getR (pc' := 16) (F := 179) (t' := 117) rfl rfl rfl rfl rfl g_1 ?_
    obtain ⟨g_5, w⟩ := w
    refine jw_cV (st := []) (sa := [vR 116 (jfr h 178 r0), vR 117 (jfr h 179 r0)]) okX10_take rfl rfl rfl rfl rfl rfl (jstp_virtual (sa := [vR 117 (jfr h 179 r0)]) (st := []) (k := 0) rfl rfl sX10_take okX10_take g_5 (one116.k g_5) rfl rfl) w (fun h_6 _ _ w => ?_)
    refine jw_goto (pc' := 27) rfl rfl ?_
    refine jw_gen (ls' := [none]) (st' := []) (trivial) (trivial) ?_
    exact w_X8_undo_27 w
def T_X8_undo (D : JD) (d : Nat) (Q : JO → JH → Prop) (r0 : Nat) (h : JH) : Prop := W_X8_undo_0 D d Q r0 h
theorem t_X8_undo {D : JD} {d : Nat} {Q : JO → JH → Prop} {r0 : Nat} {h : JH} (w : T_X8_undo D d Q r0 h) : cX8_undo D (d + 1) r0 h Q := by
  unfold T_X8_undo at w
  unfold cX8_undo
  exact w_X8_undo_0 w
def W_X8_gone_2 (D : JD) (d : Nat) (Q : JO → JH → Prop) (K2 : Nat → Int32 → Int32 → JH → Prop) (r0 : Nat) (x1 : Int32) (x2 : Int32) (h : JH) : Prop :=
  r0 ≠ 0 ∧ (((jfi h 225 r0) ≤ x2 → ∀ h_3 : JH, h_3 = wfi h 225 r0 ((jfi h 225 r0) - x1) → (Q (.inl none) h_3)) ∧ (¬ (jfi h 225 r0) ≤ x2 → (jfr h 224 r0) ≠ 0 ∧ jin x2 (jln h (jfr h 224 r0)) ∧ (jin (x2 - x1) (jln h (jfr h 224 r0)) ∧ ∀ h_8 : JH, h_8 = wai h (jfr h 224 r0) (ixn (x2 - x1)) ((Int32.toInt8 (jai h (jfr h 224 r0) (ixn x2))).toInt32) → (K2 r0 x1 (x2 + (1 : Int32)) h_8))))
theorem w_X8_gone_2 {D : JD} {d : Nat} {Q : JO → JH → Prop} {K2 : Nat → Int32 → Int32 → JH → Prop} {r0 : Nat} {x1 : Int32} {x2 : Int32} {h : JH} (hK2 : ∀ (r0 : Nat) (x1 : Int32) (x2 : Int32) (h : JH), K2 r0 x1 x2 h → JW D (d + 1) mX8_gone 2 [some (vR 41 r0), some (vI x1), some (vI x2)] [] h Q) (w : W_X8_gone_2 D d Q K2 r0 x1 x2 h) : JW D (d + 1) mX8_gone 2 [some (vR 41 r0), some (vI x1), some (vI x2)] [] h Q := by
  unfold W_X8_gone_2 at w
  refine jw_iload_n (pc' := 3) rfl rfl ?_
  refine jw_aload_n (pc' := 4) rfl rfl ?_
  obtain ⟨g_1, w⟩ := w
  refine jw_getI (pc' := 7) (F := 225) rfl rfl rfl rfl g_1 ?_
  refine jw_icmp_ge (tgt := 30) (pc' := 10) rfl rfl (fun c_2 => ?_) (fun c_2 => ?_)
  · replace w := w.1 c_2
    refine jw_aload_n (pc' := 31) rfl rfl ?_
    refine jw_dup (pc' := 32) rfl rfl ?_
    refine jw_getI (pc' := 35) (F := 225) rfl rfl rfl rfl g_1 ?_
    refine jw_iload_n (pc' := 36) rfl rfl ?_
    refine jw_isub (pc' := 37) rfl ?_
    refine jw_putI' (pc' := 40) (F := 225) rfl rfl rfl (Or.inr rfl) (Or.inl rfl) rfl (rfl) (rfl) rfl g_1 (fun h_3 e_4 => ?_)
    replace w := w h_3 e_4
    exact jw_return rfl rfl w
  · replace w := w.2 c_2
    refine jw_aload_n (pc' := 11) rfl rfl ?_
    refine jw_getR (pc' := 14) (F := 224) (t' := 179) rfl rfl rfl rfl rfl g_1 ?_
    refine jw_iload_n (pc' := 15) rfl rfl ?_
    refine jw_iload_n (pc' := 16) rfl rfl ?_
    refine jw_isub (pc' := 17) rfl ?_
    refine jw_aload_n (pc' := 18) rfl rfl ?_
    refine jw_getR (pc' := 21) (F := 224) (t' := 179) rfl rfl rfl rfl rfl g_1 ?_
    refine jw_iload_n (pc' := 22) rfl rfl ?_
    obtain ⟨g_5, w⟩ := w
    obtain ⟨g_6, w⟩ := w
    refine jw_bald (pc' := 23) rfl rfl rfl rfl g_5 g_6.ix g_6.2 ?_
    obtain ⟨g_7, w⟩ := w
    refine jw_bast' (pc' := 24) rfl rfl rfl rfl rfl g_5 g_7 (fun h_8 e_9 => ?_)
    replace w := w h_8 e_9
    refine jw_iinc (pc' := 27) (y := x2 + (1 : Int32)) (ls' := [some (vR 41 r0), some (vI x1), some (vI (x2 + (1 : Int32)))]) rfl (by decide) rfl rfl rfl ?_
    refine jw_goto (pc' := 2) rfl rfl ?_
    exact hK2 _ _ _ _ w
def L_X8_gone_2 (D : JD) (d : Nat) (Q : JO → JH → Prop) : Nat → Nat → Int32 → Int32 → JH → Prop
  | 0 => fun _ _ _ _ => False
  | n + 1 => fun r0 x1 x2 h => W_X8_gone_2 D d Q (L_X8_gone_2 D d Q n) r0 x1 x2 h
theorem l_X8_gone_2 {D : JD} {d : Nat} {Q : JO → JH → Prop} : ∀ (n : Nat) (r0 : Nat) (x1 : Int32) (x2 : Int32) (h : JH), L_X8_gone_2 D d Q n r0 x1 x2 h → JW D (d + 1) mX8_gone 2 [some (vR 41 r0), some (vI x1), some (vI x2)] [] h Q := by
  intro n
  induction n with
  | zero => intro _ _ _ _ w; exact w.elim
  | succ n ih => intro _ _ _ h w; exact w_X8_gone_2 ih w
def W_X8_gone_0 (D : JD) (d : Nat) (Q : JO → JH → Prop) (r0 : Nat) (x1 : Int32) (h : JH) : Prop :=
  ∃ n, L_X8_gone_2 D d Q n r0 x1 x1 h
theorem w_X8_gone_0 {D : JD} {d : Nat} {Q : JO → JH → Prop} {r0 : Nat} {x1 : Int32} {h : JH} (w : W_X8_gone_0 D d Q r0 x1 h) : JW D (d + 1) mX8_gone 0 [some (vR 41 r0), some (vI x1), none] [] h Q := by
  unfold W_X8_gone_0 at w
  refine jw_iload_n (pc' := 1) rfl rfl ?_
  refine jw_istore_n (pc' := 2) (ls' := [some (vR 41 r0), some (vI x1), some (vI x1)]) rfl (by decide) rfl ?_
  obtain ⟨n, w⟩ := w
  exact l_X8_gone_2 n _ _ _ _ w
def T_X8_gone (D : JD) (d : Nat) (Q : JO → JH → Prop) (r0 : Nat) (x1 : Int32) (h : JH) : Prop := W_X8_gone_0 D d Q r0 x1 h
theorem t_X8_gone {D : JD} {d : Nat} {Q : JO → JH → Prop} {r0 : Nat} {x1 : Int32} {h : JH} (w : T_X8_gone D d Q r0 x1 h) : cX8_gone D (d + 1) r0 x1 h Q := by
  unfold T_X8_gone at w
  unfold cX8_gone
  exact w_X8_gone_0 w
def W_X8_word_70 (D : JD) (d : Nat) (Q : JO → JH → Prop) (K32 : Nat → Int32 → Int64 → Int32 → JH → Prop) (r0 : Nat) (x1 : Int32) (x4 : Int32) (t0 : Int64) (t1 : Int64) (h : JH) : Prop :=
  K32 r0 x1 (t0 ||| t1) (x4 + (1 : Int32)) h
theorem w_X8_word_70 {D : JD} {d : Nat} {Q : JO → JH → Prop} {K32 : Nat → Int32 → Int64 → Int32 → JH → Prop} {r0 : Nat} {x1 : Int32} {x4 : Int32} {t0 : Int64} {t1 : Int64} {h : JH} (hK32 : ∀ (r0 : Nat) (x1 : Int32) (y2 : Int64) (x4 : Int32) (h : JH), K32 r0 x1 y2 x4 h → JW D (d + 1) mX8_word 32 [some (vR 41 r0), some (vI x1), some (vL y2), none, some (vI x4)] [] h Q) (w : W_X8_word_70 D d Q K32 r0 x1 x4 t0 t1 h) : JW D (d + 1) mX8_word 70 [some (vR 41 r0), some (vI x1), none, none, some (vI x4)] [vL t1, vL t0] h Q := by
  unfold W_X8_word_70 at w
  refine jw_lor (pc' := 71) rfl ?_
  refine jw_lstore_n (pc' := 72) (ls' := [some (vR 41 r0), some (vI x1), some (vL (t0 ||| t1)), none, some (vI x4)]) rfl (by decide) rfl ?_
  refine jw_iinc (pc' := 75) (y := x4 + (1 : Int32)) (ls' := [some (vR 41 r0), some (vI x1), some (vL (t0 ||| t1)), none, some (vI (x4 + (1 : Int32)))]) rfl (by decide) rfl rfl rfl ?_
  refine jw_goto (pc' := 32) rfl rfl ?_
  exact hK32 _ _ _ _ _ w
def W_X8_word_32 (D : JD) (d : Nat) (Q : JO → JH → Prop) (K32 : Nat → Int32 → Int64 → Int32 → JH → Prop) (r0 : Nat) (x1 : Int32) (y2 : Int64) (x4 : Int32) (h : JH) : Prop :=
  ((x1 + (8 : Int32)) ≤ x4 → Q (.inl (some (vL y2))) h) ∧ (¬ (x1 + (8 : Int32)) ≤ x4 → r0 ≠ 0 ∧ (((jfi h 227 r0) ≤ x4 → W_X8_word_70 D d Q K32 r0 x1 x4 (y2 <<< (Int32.toInt64 (8 : Int32) &&& 63)) (0 : Int64) h) ∧ (¬ (jfi h 227 r0) ≤ x4 → (jfr h 226 r0) ≠ 0 ∧ jin x4 (jln h (jfr h 226 r0)) ∧ (W_X8_word_70 D d Q K32 r0 x1 x4 (y2 <<< (Int32.toInt64 (8 : Int32) &&& 63)) ((Int32.toInt64 (jai h (jfr h 226 r0) (ixn x4))) &&& (255 : Int64)) h))))
theorem w_X8_word_32 {D : JD} {d : Nat} {Q : JO → JH → Prop} {K32 : Nat → Int32 → Int64 → Int32 → JH → Prop} {r0 : Nat} {x1 : Int32} {y2 : Int64} {x4 : Int32} {h : JH} (hK32 : ∀ (r0 : Nat) (x1 : Int32) (y2 : Int64) (x4 : Int32) (h : JH), K32 r0 x1 y2 x4 h → JW D (d + 1) mX8_word 32 [some (vR 41 r0), some (vI x1), some (vL y2), none, some (vI x4)] [] h Q) (w : W_X8_word_32 D d Q K32 r0 x1 y2 x4 h) : JW D (d + 1) mX8_word 32 [some (vR 41 r0), some (vI x1), some (vL y2), none, some (vI x4)] [] h Q := by
  unfold W_X8_word_32 at w
  refine jw_iload (pc' := 34) rfl rfl ?_
  refine jw_iload_n (pc' := 35) rfl rfl ?_
  refine jw_bipush (pc' := 37) (x := (8 : Int32)) rfl rfl ?_
  refine jw_iadd (pc' := 38) rfl ?_
  refine jw_icmp_ge (tgt := 78) (pc' := 41) rfl rfl (fun c_1 => ?_) (fun c_1 => ?_)
  · replace w := w.1 c_1
    refine jw_lload_n (pc' := 79) rfl rfl ?_
    exact jw_lreturn rfl rfl w
  · replace w := w.2 c_1
    refine jw_lload_n (pc' := 42) rfl rfl ?_
    refine jw_bipush (pc' := 44) (x := (8 : Int32)) rfl rfl ?_
    refine jw_lshl (pc' := 45) rfl ?_
    refine jw_iload (pc' := 47) rfl rfl ?_
    refine jw_aload_n (pc' := 48) rfl rfl ?_
    obtain ⟨g_2, w⟩ := w
    refine jw_getI (pc' := 51) (F := 227) rfl rfl rfl rfl g_2 ?_
    refine jw_icmp_ge (tgt := 69) (pc' := 54) rfl rfl (fun c_3 => ?_) (fun c_3 => ?_)
    · replace w := w.1 c_3
      refine jw_lconst (pc' := 70) (x := (0 : Int64)) rfl rfl ?_
      refine jw_gen (ls' := [some (vR 41 r0), some (vI x1), none, none, some (vI x4)]) (st' := [vL (0 : Int64), vL (y2 <<< (Int32.toInt64 (8 : Int32) &&& 63))]) (And.intro (Or.inl rfl) (And.intro (Or.inl rfl) (And.intro (Or.inl rfl) (trivial)))) (And.intro (Or.inl rfl) (And.intro (Or.inl rfl) (trivial))) ?_
      exact w_X8_word_70 hK32 w
    · replace w := w.2 c_3
      refine jw_aload_n (pc' := 55) rfl rfl ?_
      refine jw_getR (pc' := 58) (F := 226) (t' := 180) rfl rfl rfl rfl rfl g_2 ?_
      refine jw_iload (pc' := 60) rfl rfl ?_
      obtain ⟨g_4, w⟩ := w
      obtain ⟨g_5, w⟩ := w
      refine jw_bald (pc' := 61) rfl rfl rfl rfl g_4 g_5.ix g_5.2 ?_
      refine jw_i2l (pc' := 62) rfl ?_
      refine jw_ldc2 (pc' := 65) (v := (255 : Int64)) rfl rfl ?_
      refine jw_land (pc' := 66) rfl ?_
      refine jw_goto (pc' := 70) rfl rfl ?_
      refine jw_gen (ls' := [some (vR 41 r0), some (vI x1), none, none, some (vI x4)]) (st' := [vL ((Int32.toInt64 (jai h (jfr h 226 r0) (ixn x4))) &&& (255 : Int64)), vL (y2 <<< (Int32.toInt64 (8 : Int32) &&& 63))]) (And.intro (Or.inl rfl) (And.intro (Or.inl rfl) (And.intro (Or.inl rfl) (trivial)))) (And.intro (Or.inl rfl) (And.intro (Or.inl rfl) (trivial))) ?_
      exact w_X8_word_70 hK32 w
def L_X8_word_32 (D : JD) (d : Nat) (Q : JO → JH → Prop) : Nat → Nat → Int32 → Int64 → Int32 → JH → Prop
  | 0 => fun _ _ _ _ _ => False
  | n + 1 => fun r0 x1 y2 x4 h => W_X8_word_32 D d Q (L_X8_word_32 D d Q n) r0 x1 y2 x4 h
theorem l_X8_word_32 {D : JD} {d : Nat} {Q : JO → JH → Prop} : ∀ (n : Nat) (r0 : Nat) (x1 : Int32) (y2 : Int64) (x4 : Int32) (h : JH), L_X8_word_32 D d Q n r0 x1 y2 x4 h → JW D (d + 1) mX8_word 32 [some (vR 41 r0), some (vI x1), some (vL y2), none, some (vI x4)] [] h Q := by
  intro n
  induction n with
  | zero => intro _ _ _ _ _ w; exact w.elim
  | succ n ih => intro _ _ _ _ h w; exact w_X8_word_32 ih w
def W_X8_word_18 (D : JD) (d : Nat) (Q : JO → JH → Prop) (r0 : Nat) (x1 : Int32) (q0 : Nat) (s1 : Int32) (h : JH) : Prop :=
  q0 ≠ 0 ∧ (cX8_good D d q0 s1 (1 : Int32) h (pI D h (fun v_4 h_2 => (¬ v_4 = 0 → ∃ n, L_X8_word_32 D d Q n r0 x1 (0 : Int64) x1 h_2) ∧ (v_4 = 0 → Q (.inl (some (vL (0 : Int64)))) h_2)) (jth Q)))
theorem w_X8_word_18 {D : JD} {d : Nat} {Q : JO → JH → Prop} {r0 : Nat} {x1 : Int32} {q0 : Nat} {s1 : Int32} {h : JH} (w : W_X8_word_18 D d Q r0 x1 q0 s1 h) : JW D (d + 1) mX8_word 18 [some (vR 41 r0), some (vI x1), none, none, none] [vI s1, vR 41 q0] h Q := by
  unfold W_X8_word_18 at w
  refine jw_iconst (pc' := 19) (x := (1 : Int32)) rfl rfl ?_
  obtain ⟨g_1, w⟩ := w
  refine jw_cI (st := []) (sa := [vR 41 q0, vI s1, vI (1 : Int32)]) okX8_good rfl rfl rfl rfl rfl rfl (jstp_virtual (sa := [vI s1, vI (1 : Int32)]) (st := []) (k := 0) rfl rfl sX8_good okX8_good g_1 (one41.k g_1) rfl rfl) w (fun v_4 h_2 _ _ w => ?_)
  refine jw_if_ne (tgt := 27) (pc' := 25) rfl rfl (fun c_5 => ?_) (fun c_5 => ?_)
  · replace w := w.1 c_5
    refine jw_lconst (pc' := 28) (x := (0 : Int64)) rfl rfl ?_
    refine jw_lstore_n (pc' := 29) (ls' := [some (vR 41 r0), some (vI x1), some (vL (0 : Int64)), none, none]) rfl (by decide) rfl ?_
    refine jw_iload_n (pc' := 30) rfl rfl ?_
    refine jw_istore (pc' := 32) (ls' := [some (vR 41 r0), some (vI x1), some (vL (0 : Int64)), none, some (vI x1)]) rfl (by decide) rfl ?_
    obtain ⟨n, w⟩ := w
    exact l_X8_word_32 n _ _ _ _ _ w
  · replace w := w.2 c_5
    refine jw_lconst (pc' := 26) (x := (0 : Int64)) rfl rfl ?_
    exact jw_lreturn rfl rfl w
def W_X8_word_17 (D : JD) (d : Nat) (Q : JO → JH → Prop) (r0 : Nat) (x1 : Int32) (q0 : Nat) (h : JH) : Prop :=
  W_X8_word_18 D d Q r0 x1 q0 (0 : Int32) h
theorem w_X8_word_17 {D : JD} {d : Nat} {Q : JO → JH → Prop} {r0 : Nat} {x1 : Int32} {q0 : Nat} {h : JH} (w : W_X8_word_17 D d Q r0 x1 q0 h) : JW D (d + 1) mX8_word 17 [some (vR 41 r0), some (vI x1), none, none, none] [vR 41 q0] h Q := by
  unfold W_X8_word_17 at w
  refine jw_iconst (pc' := 18) (x := (0 : Int32)) rfl rfl ?_
  exact w_X8_word_18 w
def W_X8_word_0 (D : JD) (d : Nat) (Q : JO → JH → Prop) (r0 : Nat) (x1 : Int32) (h : JH) : Prop :=
  (x1 < 0 → W_X8_word_17 D d Q r0 x1 r0 h) ∧ (¬ x1 < 0 → r0 ≠ 0 ∧ (((jfi h 227 r0) ≤ x1 → W_X8_word_17 D d Q r0 x1 r0 h) ∧ (¬ (jfi h 227 r0) ≤ x1 → W_X8_word_18 D d Q r0 x1 r0 (1 : Int32) h)))
theorem w_X8_word_0 {D : JD} {d : Nat} {Q : JO → JH → Prop} {r0 : Nat} {x1 : Int32} {h : JH} (w : W_X8_word_0 D d Q r0 x1 h) : JW D (d + 1) mX8_word 0 [some (vR 41 r0), some (vI x1), none, none, none] [] h Q := by
  unfold W_X8_word_0 at w
  refine jw_aload_n (pc' := 1) rfl rfl ?_
  refine jw_iload_n (pc' := 2) rfl rfl ?_
  refine jw_if_lt (tgt := 17) (pc' := 5) rfl rfl (fun c_1 => ?_) (fun c_1 => ?_)
  · replace w := w.1 c_1
    exact w_X8_word_17 w
  · replace w := w.2 c_1
    refine jw_iload_n (pc' := 6) rfl rfl ?_
    refine jw_aload_n (pc' := 7) rfl rfl ?_
    obtain ⟨g_2, w⟩ := w
    refine jw_getI (pc' := 10) (F := 227) rfl rfl rfl rfl g_2 ?_
    refine jw_icmp_ge (tgt := 17) (pc' := 13) rfl rfl (fun c_3 => ?_) (fun c_3 => ?_)
    · replace w := w.1 c_3
      exact w_X8_word_17 w
    · replace w := w.2 c_3
      refine jw_iconst (pc' := 14) (x := (1 : Int32)) rfl rfl ?_
      refine jw_goto (pc' := 18) rfl rfl ?_
      exact w_X8_word_18 w
def T_X8_word (D : JD) (d : Nat) (Q : JO → JH → Prop) (r0 : Nat) (x1 : Int32) (h : JH) : Prop := W_X8_word_0 D d Q r0 x1 h
theorem t_X8_word {D : JD} {d : Nat} {Q : JO → JH → Prop} {r0 : Nat} {x1 : Int32} {h : JH} (w : T_X8_word D d Q r0 x1 h) : cX8_word D (d + 1) r0 x1 h Q := by
  unfold T_X8_word at w
  unfold cX8_word
  exact w_X8_word_0 w
def W_X8_hash_9 (D : JD) (d : Nat) (Q : JO → JH → Prop) (K9 : Nat → Int32 → Int32 → JH → Prop) (r0 : Nat) (x1 : Int32) (x2 : Int32) (h : JH) : Prop :=
  r0 ≠ 0 ∧ (((jfi h 227 r0) ≤ x2 → Q (.inl (some (vI x1))) h) ∧ (¬ (jfi h 227 r0) ≤ x2 → (jfr h 226 r0) ≠ 0 ∧ jin x2 (jln h (jfr h 226 r0)) ∧ (K9 r0 (((31 : Int32) * x1) + ((jai h (jfr h 226 r0) (ixn x2)) &&& (255 : Int32))) (x2 + (1 : Int32)) h)))
theorem w_X8_hash_9 {D : JD} {d : Nat} {Q : JO → JH → Prop} {K9 : Nat → Int32 → Int32 → JH → Prop} {r0 : Nat} {x1 : Int32} {x2 : Int32} {h : JH} (hK9 : ∀ (r0 : Nat) (x1 : Int32) (x2 : Int32) (h : JH), K9 r0 x1 x2 h → JW D (d + 1) mX8_hash 9 [some (vR 41 r0), some (vI x1), some (vI x2)] [] h Q) (w : W_X8_hash_9 D d Q K9 r0 x1 x2 h) : JW D (d + 1) mX8_hash 9 [some (vR 41 r0), some (vI x1), some (vI x2)] [] h Q := by
  unfold W_X8_hash_9 at w
  refine jw_iload_n (pc' := 10) rfl rfl ?_
  refine jw_aload_n (pc' := 11) rfl rfl ?_
  obtain ⟨g_1, w⟩ := w
  refine jw_getI (pc' := 14) (F := 227) rfl rfl rfl rfl g_1 ?_
  refine jw_icmp_ge (tgt := 39) (pc' := 17) rfl rfl (fun c_2 => ?_) (fun c_2 => ?_)
  · replace w := w.1 c_2
    refine jw_iload_n (pc' := 40) rfl rfl ?_
    exact jw_ireturn rfl rfl (rfl) w
  · replace w := w.2 c_2
    refine jw_bipush (pc' := 19) (x := (31 : Int32)) rfl rfl ?_
    refine jw_iload_n (pc' := 20) rfl rfl ?_
    refine jw_imul (pc' := 21) rfl ?_
    refine jw_aload_n (pc' := 22) rfl rfl ?_
    refine jw_getR (pc' := 25) (F := 226) (t' := 180) rfl rfl rfl rfl rfl g_1 ?_
    refine jw_iload_n (pc' := 26) rfl rfl ?_
    obtain ⟨g_3, w⟩ := w
    obtain ⟨g_4, w⟩ := w
    refine jw_bald (pc' := 27) rfl rfl rfl rfl g_3 g_4.ix g_4.2 ?_
    refine jw_sipush (pc' := 30) (x := (255 : Int32)) rfl rfl ?_
    refine jw_iand (pc' := 31) rfl ?_
    refine jw_iadd (pc' := 32) rfl ?_
    refine jw_istore_n (pc' := 33) (ls' := [some (vR 41 r0), some (vI (((31 : Int32) * x1) + ((jai h (jfr h 226 r0) (ixn x2)) &&& (255 : Int32)))), some (vI x2)]) rfl (by decide) rfl ?_
    refine jw_iinc (pc' := 36) (y := x2 + (1 : Int32)) (ls' := [some (vR 41 r0), some (vI (((31 : Int32) * x1) + ((jai h (jfr h 226 r0) (ixn x2)) &&& (255 : Int32)))), some (vI (x2 + (1 : Int32)))]) rfl (by decide) rfl rfl rfl ?_
    refine jw_goto (pc' := 9) rfl rfl ?_
    exact hK9 _ _ _ _ w
def L_X8_hash_9 (D : JD) (d : Nat) (Q : JO → JH → Prop) : Nat → Nat → Int32 → Int32 → JH → Prop
  | 0 => fun _ _ _ _ => False
  | n + 1 => fun r0 x1 x2 h => W_X8_hash_9 D d Q (L_X8_hash_9 D d Q n) r0 x1 x2 h
theorem l_X8_hash_9 {D : JD} {d : Nat} {Q : JO → JH → Prop} : ∀ (n : Nat) (r0 : Nat) (x1 : Int32) (x2 : Int32) (h : JH), L_X8_hash_9 D d Q n r0 x1 x2 h → JW D (d + 1) mX8_hash 9 [some (vR 41 r0), some (vI x1), some (vI x2)] [] h Q := by
  intro n
  induction n with
  | zero => intro _ _ _ _ w; exact w.elim
  | succ n ih => intro _ _ _ h w; exact w_X8_hash_9 ih w
def W_X8_hash_0 (D : JD) (d : Nat) (Q : JO → JH → Prop) (r0 : Nat) (h : JH) : Prop :=
  r0 ≠ 0 ∧ ∀ h_2 : JH, h_2 = wfi h 236 r0 (0 : Int32) → (∃ n, L_X8_hash_9 D d Q n r0 (1 : Int32) (0 : Int32) h_2)
theorem w_X8_hash_0 {D : JD} {d : Nat} {Q : JO → JH → Prop} {r0 : Nat} {h : JH} (w : W_X8_hash_0 D d Q r0 h) : JW D (d + 1) mX8_hash 0 [some (vR 41 r0), none, none] [] h Q := by
  unfold W_X8_hash_0 at w
  refine jw_iconst (pc' := 1) (x := (1 : Int32)) rfl rfl ?_
  refine jw_istore_n (pc' := 2) (ls' := [some (vR 41 r0), some (vI (1 : Int32)), none]) rfl (by decide) rfl ?_
  refine jw_aload_n (pc' := 3) rfl rfl ?_
  refine jw_iconst (pc' := 4) (x := (0 : Int32)) rfl rfl ?_
  obtain ⟨g_1, w⟩ := w
  refine jw_putI' (pc' := 7) (F := 236) rfl rfl rfl (Or.inr rfl) (Or.inl rfl) rfl (rfl) (rfl) rfl g_1 (fun h_2 e_3 => ?_)
  replace w := w h_2 e_3
  refine jw_iconst (pc' := 8) (x := (0 : Int32)) rfl rfl ?_
  refine jw_istore_n (pc' := 9) (ls' := [some (vR 41 r0), some (vI (1 : Int32)), some (vI (0 : Int32))]) rfl (by decide) rfl ?_
  obtain ⟨n, w⟩ := w
  exact l_X8_hash_9 n _ _ _ _ w
def T_X8_hash (D : JD) (d : Nat) (Q : JO → JH → Prop) (r0 : Nat) (h : JH) : Prop := W_X8_hash_0 D d Q r0 h
theorem t_X8_hash {D : JD} {d : Nat} {Q : JO → JH → Prop} {r0 : Nat} {h : JH} (w : T_X8_hash D d Q r0 h) : cX8_hash D (d + 1) r0 h Q := by
  unfold T_X8_hash at w
  unfold cX8_hash
  exact w_X8_hash_0 w
def W_X8_count_125 (D : JD) (d : Nat) (Q : JO → JH → Prop) (s0 : Int32) (h : JH) : Prop :=
  Q (.inl (some (vI s0))) h
theorem w_X8_count_125 {D : JD} {d : Nat} {Q : JO → JH → Prop} {s0 : Int32} {h : JH} (w : W_X8_count_125 D d Q s0 h) : JW D (d + 1) mX8_count 125 [none, none] [vI s0] h Q := by
  unfold W_X8_count_125 at w
  exact jw_ireturn rfl rfl (rfl) w
def W_X8_count_16 (D : JD) (d : Nat) (Q : JO → JH → Prop) (r0 : Nat) (x1 : Int32) (q0 : Nat) (s1 : Int32) (h : JH) : Prop :=
  q0 ≠ 0 ∧ (cX8_good D d q0 s1 (1 : Int32) h (pI D h (fun v_4 h_2 => (¬ v_4 = 0 → (x1 = (0 : Int32) → r0 ≠ 0 ∧ (Q (.inl (some (vI (jfi h_2 225 r0)))) h_2)) ∧ (x1 = (1 : Int32) → r0 ≠ 0 ∧ (Q (.inl (some (vI (jfi h_2 227 r0)))) h_2)) ∧ (x1 = (2 : Int32) → r0 ≠ 0 ∧ (Q (.inl (some (vI (jfi h_2 228 r0)))) h_2)) ∧ (x1 = (3 : Int32) → r0 ≠ 0 ∧ ((jfr h_2 178 r0) ≠ 0 ∧ (Q (.inl (some (vI (jfi h_2 247 (jfr h_2 178 r0))))) h_2))) ∧ (x1 = (4 : Int32) → r0 ≠ 0 ∧ ((jfr h_2 178 r0) ≠ 0 ∧ (cX10_rows D d (jfr h_2 178 r0) h_2 (pI D h_2 (fun v_20 h_18 => Q (.inl (some (vI v_20))) h_18) (jth Q))))) ∧ (x1 = (5 : Int32) → r0 ≠ 0 ∧ (Q (.inl (some (vI (jfi h_2 232 r0)))) h_2)) ∧ (x1 = (6 : Int32) → r0 ≠ 0 ∧ (Q (.inl (some (vI (jfi h_2 234 r0)))) h_2)) ∧ (x1 = (7 : Int32) → r0 ≠ 0 ∧ (((jfi h_2 229 r0) = 0 → W_X8_count_125 D d Q (0 : Int32) h_2) ∧ (¬ (jfi h_2 229 r0) = 0 → W_X8_count_125 D d Q (1 : Int32) h_2))) ∧ (¬ x1 = (0 : Int32) → ¬ x1 = (1 : Int32) → ¬ x1 = (2 : Int32) → ¬ x1 = (3 : Int32) → ¬ x1 = (4 : Int32) → ¬ x1 = (5 : Int32) → ¬ x1 = (6 : Int32) → ¬ x1 = (7 : Int32) → r0 ≠ 0 ∧ (Q (.inl (some (vI (jfi h_2 223 r0)))) h_2))) ∧ (v_4 = 0 → Q (.inl (some (vI (0 : Int32)))) h_2)) (jth Q)))
theorem w_X8_count_16 {D : JD} {d : Nat} {Q : JO → JH → Prop} {r0 : Nat} {x1 : Int32} {q0 : Nat} {s1 : Int32} {h : JH} (w : W_X8_count_16 D d Q r0 x1 q0 s1 h) : JW D (d + 1) mX8_count 16 [some (vR 41 r0), some (vI x1)] [vI s1, vR 41 q0] h Q := by
  unfold W_X8_count_16 at w
  refine jw_iconst (pc' := 17) (x := (1 : Int32)) rfl rfl ?_
  obtain ⟨g_1, w⟩ := w
  refine jw_cI (st := []) (sa := [vR 41 q0, vI s1, vI (1 : Int32)]) okX8_good rfl rfl rfl rfl rfl rfl (jstp_virtual (sa := [vI s1, vI (1 : Int32)]) (st := []) (k := 0) rfl rfl sX8_good okX8_good g_1 (one41.k g_1) rfl rfl) w (fun v_4 h_2 _ _ w => ?_)
  refine jw_if_ne (tgt := 25) (pc' := 23) rfl rfl (fun c_5 => ?_) (fun c_5 => ?_)
  · replace w := w.1 c_5
    refine jw_iload_n (pc' := 26) rfl rfl ?_
    refine jw_tsw (cs := [((0 : Int32), 72), ((1 : Int32), 77), ((2 : Int32), 82), ((3 : Int32), 87), ((4 : Int32), 95), ((5 : Int32), 103), ((6 : Int32), 108), ((7 : Int32), 113)]) (dt := 126) rfl (by decide +kernel) ?_
    by_cases c_6 : x1 = (0 : Int32)
    · rw [jsw_hit c_6]
      replace w := w.1 c_6
      refine jw_aload_n (pc' := 73) rfl rfl ?_
      obtain ⟨g_7, w⟩ := w
      refine jw_getI (pc' := 76) (F := 225) rfl rfl rfl rfl g_7 ?_
      exact jw_ireturn rfl rfl (rfl) w
    · rw [jsw_miss c_6]
      replace w := w.2
      by_cases c_8 : x1 = (1 : Int32)
      · rw [jsw_hit c_8]
        replace w := w.1 c_8
        refine jw_aload_n (pc' := 78) rfl rfl ?_
        obtain ⟨g_9, w⟩ := w
        refine jw_getI (pc' := 81) (F := 227) rfl rfl rfl rfl g_9 ?_
        exact jw_ireturn rfl rfl (rfl) w
      · rw [jsw_miss c_8]
        replace w := w.2
        by_cases c_10 : x1 = (2 : Int32)
        · rw [jsw_hit c_10]
          replace w := w.1 c_10
          refine jw_aload_n (pc' := 83) rfl rfl ?_
          obtain ⟨g_11, w⟩ := w
          refine jw_getI (pc' := 86) (F := 228) rfl rfl rfl rfl g_11 ?_
          exact jw_ireturn rfl rfl (rfl) w
        · rw [jsw_miss c_10]
          replace w := w.2
          by_cases c_12 : x1 = (3 : Int32)
          · rw [jsw_hit c_12]
            replace w := w.1 c_12
            refine jw_aload_n (pc' := 88) rfl rfl ?_
            obtain ⟨g_13, w⟩ := w
            refine jw_getR (pc' := 91) (F := 178) (t' := 116) rfl rfl rfl rfl rfl g_13 ?_
            obtain ⟨g_14, w⟩ := w
            refine jw_getI (pc' := 94) (F := 247) rfl rfl rfl rfl g_14 ?_
            exact jw_ireturn rfl rfl (rfl) w
          · rw [jsw_miss c_12]
            replace w := w.2
            by_cases c_15 : x1 = (4 : Int32)
            · rw [jsw_hit c_15]
              replace w := w.1 c_15
              refine jw_aload_n (pc' := 96) rfl rfl ?_
              obtain ⟨g_16, w⟩ := w
              refine jw_getR (pc' := 99) (F := 178) (t' := 116) rfl rfl rfl rfl rfl g_16 ?_
              obtain ⟨g_17, w⟩ := w
              refine jw_cI (st := []) (sa := [vR 116 (jfr h_2 178 r0)]) okX10_rows rfl rfl rfl rfl rfl rfl (jstp_virtual (sa := []) (st := []) (k := 0) rfl rfl sX10_rows okX10_rows g_17 (one116.k g_17) rfl rfl) w (fun v_20 h_18 _ _ w => ?_)
              exact jw_ireturn rfl rfl (rfl) w
            · rw [jsw_miss c_15]
              replace w := w.2
              by_cases c_21 : x1 = (5 : Int32)
              · rw [jsw_hit c_21]
                replace w := w.1 c_21
                refine jw_aload_n (pc' := 104) rfl rfl ?_
                obtain ⟨g_22, w⟩ := w
                refine jw_getI (pc' := 107) (F := 232) rfl rfl rfl rfl g_22 ?_
                exact jw_ireturn rfl rfl (rfl) w
              · rw [jsw_miss c_21]
                replace w := w.2
                by_cases c_23 : x1 = (6 : Int32)
                · rw [jsw_hit c_23]
                  replace w := w.1 c_23
                  refine jw_aload_n (pc' := 109) rfl rfl ?_
                  obtain ⟨g_24, w⟩ := w
                  refine jw_getI (pc' := 112) (F := 234) rfl rfl rfl rfl g_24 ?_
                  exact jw_ireturn rfl rfl (rfl) w
                · rw [jsw_miss c_23]
                  replace w := w.2
                  by_cases c_25 : x1 = (7 : Int32)
                  · rw [jsw_hit c_25]
                    replace w := w.1 c_25
                    refine jw_aload_n (pc' := 114) rfl rfl ?_
                    obtain ⟨g_26, w⟩ := w
                    refine jw_getI (pc' := 117) (F := 229) rfl rfl rfl rfl g_26 ?_
                    refine jw_if_eq (tgt := 124) (pc' := 120) rfl rfl (fun c_27 => ?_) (fun c_27 => ?_)
                    · replace w := w.1 c_27
                      refine jw_iconst (pc' := 125) (x := (0 : Int32)) rfl rfl ?_
                      refine jw_gen (ls' := [none, none]) (st' := [vI (0 : Int32)]) (trivial) (And.intro (Or.inl rfl) (trivial)) ?_
                      exact w_X8_count_125 w
                    · replace w := w.2 c_27
                      refine jw_iconst (pc' := 121) (x := (1 : Int32)) rfl rfl ?_
                      refine jw_goto (pc' := 125) rfl rfl ?_
                      refine jw_gen (ls' := [none, none]) (st' := [vI (1 : Int32)]) (trivial) (And.intro (Or.inl rfl) (trivial)) ?_
                      exact w_X8_count_125 w
                  · rw [jsw_miss c_25]
                    replace w := w.2
                    rw [jsw_nil]
                    replace w := w c_6 c_8 c_10 c_12 c_15 c_21 c_23 c_25
                    refine jw_aload_n (pc' := 127) rfl rfl ?_
                    obtain ⟨g_28, w⟩ := w
                    refine jw_getI (pc' := 130) (F := 223) rfl rfl rfl rfl g_28 ?_
                    exact jw_ireturn rfl rfl (rfl) w
  · replace w := w.2 c_5
    refine jw_iconst (pc' := 24) (x := (0 : Int32)) rfl rfl ?_
    exact jw_ireturn rfl rfl (rfl) w
def W_X8_count_15 (D : JD) (d : Nat) (Q : JO → JH → Prop) (r0 : Nat) (x1 : Int32) (q0 : Nat) (h : JH) : Prop :=
  W_X8_count_16 D d Q r0 x1 q0 (0 : Int32) h
theorem w_X8_count_15 {D : JD} {d : Nat} {Q : JO → JH → Prop} {r0 : Nat} {x1 : Int32} {q0 : Nat} {h : JH} (w : W_X8_count_15 D d Q r0 x1 q0 h) : JW D (d + 1) mX8_count 15 [some (vR 41 r0), some (vI x1)] [vR 41 q0] h Q := by
  unfold W_X8_count_15 at w
  refine jw_iconst (pc' := 16) (x := (0 : Int32)) rfl rfl ?_
  exact w_X8_count_16 w
def W_X8_count_0 (D : JD) (d : Nat) (Q : JO → JH → Prop) (r0 : Nat) (x1 : Int32) (h : JH) : Prop :=
  (x1 < 0 → W_X8_count_15 D d Q r0 x1 r0 h) ∧ (¬ x1 < 0 → ((8 : Int32) < x1 → W_X8_count_15 D d Q r0 x1 r0 h) ∧ (¬ (8 : Int32) < x1 → W_X8_count_16 D d Q r0 x1 r0 (1 : Int32) h))
theorem w_X8_count_0 {D : JD} {d : Nat} {Q : JO → JH → Prop} {r0 : Nat} {x1 : Int32} {h : JH} (w : W_X8_count_0 D d Q r0 x1 h) : JW D (d + 1) mX8_count 0 [some (vR 41 r0), some (vI x1)] [] h Q := by
  unfold W_X8_count_0 at w
  refine jw_aload_n (pc' := 1) rfl rfl ?_
  refine jw_iload_n (pc' := 2) rfl rfl ?_
  refine jw_if_lt (tgt := 15) (pc' := 5) rfl rfl (fun c_1 => ?_) (fun c_1 => ?_)
  · replace w := w.1 c_1
    exact w_X8_count_15 w
  · replace w := w.2 c_1
    refine jw_iload_n (pc' := 6) rfl rfl ?_
    refine jw_bipush (pc' := 8) (x := (8 : Int32)) rfl rfl ?_
    refine jw_icmp_gt (tgt := 15) (pc' := 11) rfl rfl (fun c_2 => ?_) (fun c_2 => ?_)
    · replace w := w.1 c_2
      exact w_X8_count_15 w
    · replace w := w.2 c_2
      refine jw_iconst (pc' := 12) (x := (1 : Int32)) rfl rfl ?_
      refine jw_goto (pc' := 16) rfl rfl ?_
      exact w_X8_count_16 w
def T_X8_count (D : JD) (d : Nat) (Q : JO → JH → Prop) (r0 : Nat) (x1 : Int32) (h : JH) : Prop := W_X8_count_0 D d Q r0 x1 h
theorem t_X8_count {D : JD} {d : Nat} {Q : JO → JH → Prop} {r0 : Nat} {x1 : Int32} {h : JH} (w : T_X8_count D d Q r0 x1 h) : cX8_count D (d + 1) r0 x1 h Q := by
  unfold T_X8_count at w
  unfold cX8_count
  exact w_X8_count_0 w
def W_X9_init_0 (D : JD) (d : Nat) (Q : JO → JH → Prop) (r0 : Nat) (h : JH) : Prop :=
  r0 ≠ 0 ∧ (cJ2_init_3 D d r0 0 0 (0 : Int32) (0 : Int32) h (pV D h (fun h_2 => Q (.inl none) h_2) (jth Q)))
theorem w_X9_init_0 {D : JD} {d : Nat} {Q : JO → JH → Prop} {r0 : Nat} {h : JH} (w : W_X9_init_0 D d Q r0 h) : JW D (d + 1) mX9_init 0 [some (vR 42 r0)] [] h Q := by
  unfold W_X9_init_0 at w
  refine jw_aload_n (pc' := 1) rfl rfl ?_
  refine jw_null (pc' := 2) (t := 64) rfl ?_
  refine jw_null (pc' := 3) (t := 10) rfl ?_
  refine jw_iconst (pc' := 4) (x := (0 : Int32)) rfl rfl ?_
  refine jw_iconst (pc' := 5) (x := (0 : Int32)) rfl rfl ?_
  obtain ⟨g_1, w⟩ := w
  refine jw_cV (st := []) (sa := [vR 42 r0, vR 64 0, vR 10 0, vI (0 : Int32), vI (0 : Int32)]) okJ2_init_3 rfl rfl rfl rfl rfl rfl (jstp_init (sa := [vR 64 0, vR 10 0, vI (0 : Int32), vI (0 : Int32)]) (st := []) rfl rfl sJ2_init_3 okJ2_init_3 (lw_g (jtb_mem (c := 15) (i := 84) rfl) rfl) g_1 rfl rfl) w (fun h_2 _ _ w => ?_)
  exact jw_return rfl rfl w
def T_X9_init (D : JD) (d : Nat) (Q : JO → JH → Prop) (r0 : Nat) (h : JH) : Prop := W_X9_init_0 D d Q r0 h
theorem t_X9_init {D : JD} {d : Nat} {Q : JO → JH → Prop} {r0 : Nat} {h : JH} (w : T_X9_init D d Q r0 h) : cX9_init D (d + 1) r0 h Q := by
  unfold T_X9_init at w
  unfold cX9_init
  exact w_X9_init_0 w
