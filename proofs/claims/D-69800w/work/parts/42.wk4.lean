/-! what each method needs (printed by tools/gen_wp.py) -/
set_option maxRecDepth 4000
def W_X29_at_207 (D : JD) (d : Nat) (Q : JO → JH → Prop) (r0 : Nat) (h : JH) : Prop :=
  r0 ≠ 0 ∧ ((jfr h 108 r0) ≠ 0 ∧ (cX14_none D d (jfr h 108 r0) h (pR D h 8 (fun v_5 h_3 => Q (.inl (some (vR 8 v_5))) h_3) (jth Q))))
theorem w_X29_at_207 {D : JD} {d : Nat} {Q : JO → JH → Prop} {r0 : Nat} {h : JH} (w : W_X29_at_207 D d Q r0 h) : JW D (d + 1) mX29_at 207 [some (vR 23 r0), none, none, none, none, none, none] [] h Q := by
  unfold W_X29_at_207 at w
  refine jw_aload_n (pc' := 208) rfl rfl ?_
  obtain ⟨g_1, w⟩ := w
  refine jw_getR (pc' := 211) (F := 108) (t' := 98) rfl rfl rfl rfl rfl g_1 ?_
  obtain ⟨g_2, w⟩ := w
  refine jw_cR (st := []) (sa := [vR 98 (jfr h 108 r0)]) okX14_none rfl rfl rfl rfl rfl rfl (jstp_virtual (sa := []) (st := []) (k := 0) rfl rfl sX14_none okX14_none g_2 (one98.k g_2) rfl rfl) w (fun v_5 h_3 _ _ _ w => ?_)
  exact jw_areturn rfl rfl rfl rfl rfl w
def W_X29_at_309 (D : JD) (d : Nat) (Q : JO → JH → Prop) (r0 : Nat) (r2 : Nat) (r3 : Nat) (r4 : Nat) (x6 : Int32) (h : JH) : Prop :=
  (x6 = (0 : Int32) → r0 ≠ 0 ∧ (r2 ≠ 0 ∧ (cX14_number_2 D d r2 h (pL D h (fun v_5 h_4 => cJ15_abs D d v_5 h_4 (pL D h_4 (fun v_7 h_6 => (jfr h 108 r0) ≠ 0 ∧ (cX14_number D d (jfr h 108 r0) v_7 h_6 (pR D h_6 8 (fun v_11 h_9 => Q (.inl (some (vR 8 v_11))) h_9) (jth Q)))) (jth Q))) (jth Q))))) ∧ (x6 = (1 : Int32) → r0 ≠ 0 ∧ (r2 ≠ 0 ∧ (cX14_size D d r2 h (pI D h (fun v_17 h_15 => (jfr h 108 r0) ≠ 0 ∧ (cX14_number D d (jfr h 108 r0) (Int32.toInt64 v_17) h_15 (pR D h_15 8 (fun v_21 h_19 => Q (.inl (some (vR 8 v_21))) h_19) (jth Q)))) (jth Q))))) ∧ (x6 = (2 : Int32) → r3 ≠ 0 ∧ (cX14_number_2 D d r3 h (pL D h (fun v_25 h_24 => r4 ≠ 0 ∧ (cX14_number_2 D d r4 h_24 (pL D h_24 (fun v_28 h_27 => r0 ≠ 0 ∧ (cX29_piece D d r0 r2 v_25 v_28 h_27 (pR D h_27 8 (fun v_32 h_30 => Q (.inl (some (vR 8 v_32))) h_30) (jth Q)))) (jth Q)))) (jth Q)))) ∧ (¬ x6 = (0 : Int32) → ¬ x6 = (1 : Int32) → ¬ x6 = (2 : Int32) → r0 ≠ 0 ∧ ((jfr h 116 r0) ≠ 0 ∧ (cJ5_equals D d (jfr h 116 r0) (jcs D 159) h (pI D h (fun v_37 h_35 => cX29_cased D d r0 r2 v_37 h_35 (pR D h_35 8 (fun v_40 h_38 => Q (.inl (some (vR 8 v_40))) h_38) (jth Q))) (jth Q)))))
theorem w_X29_at_309 {D : JD} {d : Nat} {Q : JO → JH → Prop} {r0 : Nat} {r2 : Nat} {r3 : Nat} {r4 : Nat} {x6 : Int32} {h : JH} (w : W_X29_at_309 D d Q r0 r2 r3 r4 x6 h) : JW D (d + 1) mX29_at 309 [some (vR 23 r0), none, some (vR 8 r2), some (vR 8 r3), some (vR 8 r4), none, some (vI x6)] [] h Q := by
  unfold W_X29_at_309 at w
  refine jw_iload (pc' := 311) rfl rfl ?_
  refine jw_tsw (cs := [((0 : Int32), 336), ((1 : Int32), 351), ((2 : Int32), 364)]) (dt := 379) rfl (by decide +kernel) ?_
  by_cases c_1 : x6 = (0 : Int32)
  · rw [jsw_hit c_1]
    replace w := w.1 c_1
    refine jw_aload_n (pc' := 337) rfl rfl ?_
    obtain ⟨g_2, w⟩ := w
    refine jw_getR (pc' := 340) (F := 108) (t' := 98) rfl rfl rfl rfl rfl g_2 ?_
    refine jw_aload_n (pc' := 341) rfl rfl ?_
    obtain ⟨g_3, w⟩ := w
    refine jw_cL (st := [vR 98 (jfr h 108 r0)]) (sa := [vR 8 r2]) okX14_number_2 rfl rfl rfl rfl rfl rfl (jstp_virtual (sa := []) (st := [vR 98 (jfr h 108 r0)]) (k := 0) rfl rfl sX14_number_2 okX14_number_2 g_3 (one8.k g_3) rfl rfl) w (fun v_5 h_4 _ _ w => ?_)
    refine jw_cL (st := [vR 98 (jfr h 108 r0)]) (sa := [vL v_5]) okJ15_abs rfl rfl rfl rfl rfl rfl (jstp_static (sa := [vL v_5]) (st := [vR 98 (jfr h 108 r0)]) rfl rfl sJ15_abs okJ15_abs rfl rfl) w (fun v_7 h_6 _ _ w => ?_)
    obtain ⟨g_8, w⟩ := w
    refine jw_cR (st := []) (sa := [vR 98 (jfr h 108 r0), vL v_7]) okX14_number rfl rfl rfl rfl rfl rfl (jstp_virtual (sa := [vL v_7]) (st := []) (k := 0) rfl rfl sX14_number okX14_number g_8 (one98.k g_8) rfl rfl) w (fun v_11 h_9 _ _ _ w => ?_)
    exact jw_areturn rfl rfl rfl rfl rfl w
  · rw [jsw_miss c_1]
    replace w := w.2
    by_cases c_12 : x6 = (1 : Int32)
    · rw [jsw_hit c_12]
      replace w := w.1 c_12
      refine jw_aload_n (pc' := 352) rfl rfl ?_
      obtain ⟨g_13, w⟩ := w
      refine jw_getR (pc' := 355) (F := 108) (t' := 98) rfl rfl rfl rfl rfl g_13 ?_
      refine jw_aload_n (pc' := 356) rfl rfl ?_
      obtain ⟨g_14, w⟩ := w
      refine jw_cI (st := [vR 98 (jfr h 108 r0)]) (sa := [vR 8 r2]) okX14_size rfl rfl rfl rfl rfl rfl (jstp_virtual (sa := []) (st := [vR 98 (jfr h 108 r0)]) (k := 0) rfl rfl sX14_size okX14_size g_14 (one8.k g_14) rfl rfl) w (fun v_17 h_15 _ _ w => ?_)
      refine jw_i2l (pc' := 360) rfl ?_
      obtain ⟨g_18, w⟩ := w
      refine jw_cR (st := []) (sa := [vR 98 (jfr h 108 r0), vL (Int32.toInt64 v_17)]) okX14_number rfl rfl rfl rfl rfl rfl (jstp_virtual (sa := [vL (Int32.toInt64 v_17)]) (st := []) (k := 0) rfl rfl sX14_number okX14_number g_18 (one98.k g_18) rfl rfl) w (fun v_21 h_19 _ _ _ w => ?_)
      exact jw_areturn rfl rfl rfl rfl rfl w
    · rw [jsw_miss c_12]
      replace w := w.2
      by_cases c_22 : x6 = (2 : Int32)
      · rw [jsw_hit c_22]
        replace w := w.1 c_22
        refine jw_aload_n (pc' := 365) rfl rfl ?_
        refine jw_aload_n (pc' := 366) rfl rfl ?_
        refine jw_aload_n (pc' := 367) rfl rfl ?_
        obtain ⟨g_23, w⟩ := w
        refine jw_cL (st := [vR 8 r2, vR 23 r0]) (sa := [vR 8 r3]) okX14_number_2 rfl rfl rfl rfl rfl rfl (jstp_virtual (sa := []) (st := [vR 8 r2, vR 23 r0]) (k := 0) rfl rfl sX14_number_2 okX14_number_2 g_23 (one8.k g_23) rfl rfl) w (fun v_25 h_24 _ _ w => ?_)
        refine jw_aload (pc' := 372) rfl rfl ?_
        obtain ⟨g_26, w⟩ := w
        refine jw_cL (st := [vL v_25, vR 8 r2, vR 23 r0]) (sa := [vR 8 r4]) okX14_number_2 rfl rfl rfl rfl rfl rfl (jstp_virtual (sa := []) (st := [vL v_25, vR 8 r2, vR 23 r0]) (k := 0) rfl rfl sX14_number_2 okX14_number_2 g_26 (one8.k g_26) rfl rfl) w (fun v_28 h_27 _ _ w => ?_)
        obtain ⟨g_29, w⟩ := w
        refine jw_cR (st := []) (sa := [vR 23 r0, vR 8 r2, vL v_25, vL v_28]) okX29_piece rfl rfl rfl rfl rfl rfl (jstp_virtual (sa := [vR 8 r2, vL v_25, vL v_28]) (st := []) (k := 0) rfl rfl sX29_piece okX29_piece g_29 (one23.k g_29) rfl rfl) w (fun v_32 h_30 _ _ _ w => ?_)
        exact jw_areturn rfl rfl rfl rfl rfl w
      · rw [jsw_miss c_22]
        replace w := w.2
        rw [jsw_nil]
        replace w := w c_1 c_12 c_22
        refine jw_aload_n (pc' := 380) rfl rfl ?_
        refine jw_aload_n (pc' := 381) rfl rfl ?_
        refine jw_aload_n (pc' := 382) rfl rfl ?_
        obtain ⟨g_33, w⟩ := w
        refine jw_getR (pc' := 385) (F := 116) (t' := 64) rfl rfl rfl rfl rfl g_33 ?_
        refine jw_ldcS (pc' := 387) rfl rfl rfl rfl ?_
        obtain ⟨g_34, w⟩ := w
        refine jw_cI (st := [vR 8 r2, vR 23 r0]) (sa := [vR 64 (jfr h 116 r0), vR 51 (jcs D 159)]) okJ5_equals rfl rfl rfl rfl rfl rfl (jstp_virtual (sa := [vR 51 (jcs D 159)]) (st := [vR 8 r2, vR 23 r0]) (k := 0) rfl rfl sJ5_equals okJ5_equals g_34 (one64.k g_34) rfl rfl) w (fun v_37 h_35 _ _ w => ?_)
        refine jw_cR (st := []) (sa := [vR 23 r0, vR 8 r2, vI v_37]) okX29_cased rfl rfl rfl rfl rfl rfl (jstp_virtual (sa := [vR 8 r2, vI v_37]) (st := []) (k := 0) rfl rfl sX29_cased okX29_cased g_33 (one23.k g_33) rfl rfl) w (fun v_40 h_38 _ _ _ w => ?_)
        exact jw_areturn rfl rfl rfl rfl rfl w
def W_X29_at_183 (D : JD) (d : Nat) (Q : JO → JH → Prop) (r0 : Nat) (r2 : Nat) (r3 : Nat) (q0 : Nat) (h : JH) : Prop :=
  r2 ≠ 0 ∧ (cX14_isEmpty D d r2 h (pI D h (fun v_4 h_2 => (¬ v_4 = 0 → W_X29_at_207 D d Q r0 h_2) ∧ (v_4 = 0 → r3 ≠ 0 ∧ (cX14_isEmpty D d r3 h_2 (pI D h_2 (fun v_9 h_7 => (¬ v_9 = 0 → W_X29_at_207 D d Q r0 h_7) ∧ (v_9 = 0 → q0 ≠ 0 ∧ (cX14_isEmpty D d q0 h_7 (pI D h_7 (fun v_14 h_12 => (v_14 = 0 → r0 ≠ 0 ∧ ((jfr h_12 116 r0) ≠ 0 ∧ (cJ5_hashCode D d (jfr h_12 116 r0) h_12 (pI D h_12 (fun v_20 h_18 => (v_20 = (-1106363674 : Int32) → cJ5_equals D d (jfr h_12 116 r0) (jcs D 158) h_18 (pI D h_18 (fun v_24 h_22 => (v_24 = 0 → W_X29_at_309 D d Q r0 r2 r3 q0 (-1 : Int32) h_22) ∧ (¬ v_24 = 0 → W_X29_at_309 D d Q r0 r2 r3 q0 (1 : Int32) h_22)) (jth Q))) ∧ (v_20 = (-891529231 : Int32) → cJ5_equals D d (jfr h_12 116 r0) (jcs D 161) h_18 (pI D h_18 (fun v_29 h_27 => (v_29 = 0 → W_X29_at_309 D d Q r0 r2 r3 q0 (-1 : Int32) h_27) ∧ (¬ v_29 = 0 → W_X29_at_309 D d Q r0 r2 r3 q0 (2 : Int32) h_27)) (jth Q))) ∧ (v_20 = (96370 : Int32) → cJ5_equals D d (jfr h_12 116 r0) (jcs D 157) h_18 (pI D h_18 (fun v_34 h_32 => (v_34 = 0 → W_X29_at_309 D d Q r0 r2 r3 q0 (-1 : Int32) h_32) ∧ (¬ v_34 = 0 → W_X29_at_309 D d Q r0 r2 r3 q0 (0 : Int32) h_32)) (jth Q))) ∧ (¬ v_20 = (-1106363674 : Int32) → ¬ v_20 = (-891529231 : Int32) → ¬ v_20 = (96370 : Int32) → W_X29_at_309 D d Q r0 r2 r3 q0 (-1 : Int32) h_18)) (jth Q))))) ∧ (¬ v_14 = 0 → W_X29_at_207 D d Q r0 h_12)) (jth Q))))) (jth Q))))) (jth Q)))
theorem w_X29_at_183 {D : JD} {d : Nat} {Q : JO → JH → Prop} {r0 : Nat} {r2 : Nat} {r3 : Nat} {q0 : Nat} {h : JH} (w : W_X29_at_183 D d Q r0 r2 r3 q0 h) : JW D (d + 1) mX29_at 183 [some (vR 23 r0), none, some (vR 8 r2), some (vR 8 r3), none, none, none] [vR 8 q0] h Q := by
  unfold W_X29_at_183 at w
  refine jw_astore (pc' := 185) (ls' := [some (vR 23 r0), none, some (vR 8 r2), some (vR 8 r3), some (vR 8 q0), none, none]) rfl (by decide) rfl ?_
  refine jw_aload_n (pc' := 186) rfl rfl ?_
  obtain ⟨g_1, w⟩ := w
  refine jw_cI (st := []) (sa := [vR 8 r2]) okX14_isEmpty rfl rfl rfl rfl rfl rfl (jstp_virtual (sa := []) (st := []) (k := 0) rfl rfl sX14_isEmpty okX14_isEmpty g_1 (one8.k g_1) rfl rfl) w (fun v_4 h_2 _ _ w => ?_)
  refine jw_if_ne (tgt := 207) (pc' := 192) rfl rfl (fun c_5 => ?_) (fun c_5 => ?_)
  · replace w := w.1 c_5
    refine jw_gen (ls' := [some (vR 23 r0), none, none, none, none, none, none]) (st' := []) (And.intro (Or.inl rfl) (trivial)) (trivial) ?_
    exact w_X29_at_207 w
  · replace w := w.2 c_5
    refine jw_aload_n (pc' := 193) rfl rfl ?_
    obtain ⟨g_6, w⟩ := w
    refine jw_cI (st := []) (sa := [vR 8 r3]) okX14_isEmpty rfl rfl rfl rfl rfl rfl (jstp_virtual (sa := []) (st := []) (k := 0) rfl rfl sX14_isEmpty okX14_isEmpty g_6 (one8.k g_6) rfl rfl) w (fun v_9 h_7 _ _ w => ?_)
    refine jw_if_ne (tgt := 207) (pc' := 199) rfl rfl (fun c_10 => ?_) (fun c_10 => ?_)
    · replace w := w.1 c_10
      refine jw_gen (ls' := [some (vR 23 r0), none, none, none, none, none, none]) (st' := []) (And.intro (Or.inl rfl) (trivial)) (trivial) ?_
      exact w_X29_at_207 w
    · replace w := w.2 c_10
      refine jw_aload (pc' := 201) rfl rfl ?_
      obtain ⟨g_11, w⟩ := w
      refine jw_cI (st := []) (sa := [vR 8 q0]) okX14_isEmpty rfl rfl rfl rfl rfl rfl (jstp_virtual (sa := []) (st := []) (k := 0) rfl rfl sX14_isEmpty okX14_isEmpty g_11 (one8.k g_11) rfl rfl) w (fun v_14 h_12 _ _ w => ?_)
      refine jw_if_eq (tgt := 215) (pc' := 207) rfl rfl (fun c_15 => ?_) (fun c_15 => ?_)
      · replace w := w.1 c_15
        refine jw_aload_n (pc' := 216) rfl rfl ?_
        obtain ⟨g_16, w⟩ := w
        refine jw_getR (pc' := 219) (F := 116) (t' := 64) rfl rfl rfl rfl rfl g_16 ?_
        refine jw_astore (pc' := 221) (ls' := [some (vR 23 r0), none, some (vR 8 r2), some (vR 8 r3), some (vR 8 q0), some (vR 64 (jfr h_12 116 r0)), none]) rfl (by decide) rfl ?_
        refine jw_iconst (pc' := 222) (x := (-1 : Int32)) rfl rfl ?_
        refine jw_istore (pc' := 224) (ls' := [some (vR 23 r0), none, some (vR 8 r2), some (vR 8 r3), some (vR 8 q0), some (vR 64 (jfr h_12 116 r0)), some (vI (-1 : Int32))]) rfl (by decide) rfl ?_
        refine jw_aload (pc' := 226) rfl rfl ?_
        obtain ⟨g_17, w⟩ := w
        refine jw_cI (st := []) (sa := [vR 64 (jfr h_12 116 r0)]) okJ5_hashCode rfl rfl rfl rfl rfl rfl (jstp_virtual (sa := []) (st := []) (k := 0) rfl rfl sJ5_hashCode okJ5_hashCode g_17 (one64.k g_17) rfl rfl) w (fun v_20 h_18 _ _ w => ?_)
        refine jw_lsw (cs := [((-1106363674 : Int32), 280), ((-891529231 : Int32), 296), ((96370 : Int32), 264)]) (dt := 309) rfl (by decide +kernel) (by decide +kernel) ?_
        by_cases c_21 : v_20 = (-1106363674 : Int32)
        · rw [jsw_hit c_21]
          replace w := w.1 c_21
          refine jw_aload (pc' := 282) rfl rfl ?_
          refine jw_ldcS (pc' := 284) rfl rfl rfl rfl ?_
          refine jw_cI (st := []) (sa := [vR 64 (jfr h_12 116 r0), vR 51 (jcs D 158)]) okJ5_equals rfl rfl rfl rfl rfl rfl (jstp_virtual (sa := [vR 51 (jcs D 158)]) (st := []) (k := 0) rfl rfl sJ5_equals okJ5_equals g_17 (one64.k g_17) rfl rfl) w (fun v_24 h_22 _ _ w => ?_)
          refine jw_if_eq (tgt := 309) (pc' := 290) rfl rfl (fun c_25 => ?_) (fun c_25 => ?_)
          · replace w := w.1 c_25
            refine jw_gen (ls' := [some (vR 23 r0), none, some (vR 8 r2), some (vR 8 r3), some (vR 8 q0), none, some (vI (-1 : Int32))]) (st' := []) (And.intro (Or.inl rfl) (And.intro (Or.inl rfl) (And.intro (Or.inl rfl) (And.intro (Or.inl rfl) (And.intro (Or.inl rfl) (trivial)))))) (trivial) ?_
            exact w_X29_at_309 w
          · replace w := w.2 c_25
            refine jw_iconst (pc' := 291) (x := (1 : Int32)) rfl rfl ?_
            refine jw_istore (pc' := 293) (ls' := [some (vR 23 r0), none, some (vR 8 r2), some (vR 8 r3), some (vR 8 q0), some (vR 64 (jfr h_12 116 r0)), some (vI (1 : Int32))]) rfl (by decide) rfl ?_
            refine jw_goto (pc' := 309) rfl rfl ?_
            refine jw_gen (ls' := [some (vR 23 r0), none, some (vR 8 r2), some (vR 8 r3), some (vR 8 q0), none, some (vI (1 : Int32))]) (st' := []) (And.intro (Or.inl rfl) (And.intro (Or.inl rfl) (And.intro (Or.inl rfl) (And.intro (Or.inl rfl) (And.intro (Or.inl rfl) (trivial)))))) (trivial) ?_
            exact w_X29_at_309 w
        · rw [jsw_miss c_21]
          replace w := w.2
          by_cases c_26 : v_20 = (-891529231 : Int32)
          · rw [jsw_hit c_26]
            replace w := w.1 c_26
            refine jw_aload (pc' := 298) rfl rfl ?_
            refine jw_ldcS (pc' := 300) rfl rfl rfl rfl ?_
            refine jw_cI (st := []) (sa := [vR 64 (jfr h_12 116 r0), vR 51 (jcs D 161)]) okJ5_equals rfl rfl rfl rfl rfl rfl (jstp_virtual (sa := [vR 51 (jcs D 161)]) (st := []) (k := 0) rfl rfl sJ5_equals okJ5_equals g_17 (one64.k g_17) rfl rfl) w (fun v_29 h_27 _ _ w => ?_)
            refine jw_if_eq (tgt := 309) (pc' := 306) rfl rfl (fun c_30 => ?_) (fun c_30 => ?_)
            · replace w := w.1 c_30
              refine jw_gen (ls' := [some (vR 23 r0), none, some (vR 8 r2), some (vR 8 r3), some (vR 8 q0), none, some (vI (-1 : Int32))]) (st' := []) (And.intro (Or.inl rfl) (And.intro (Or.inl rfl) (And.intro (Or.inl rfl) (And.intro (Or.inl rfl) (And.intro (Or.inl rfl) (trivial)))))) (trivial) ?_
              exact w_X29_at_309 w
            · replace w := w.2 c_30
              refine jw_iconst (pc' := 307) (x := (2 : Int32)) rfl rfl ?_
              refine jw_istore (pc' := 309) (ls' := [some (vR 23 r0), none, some (vR 8 r2), some (vR 8 r3), some (vR 8 q0), some (vR 64 (jfr h_12 116 r0)), some (vI (2 : Int32))]) rfl (by decide) rfl ?_
              refine jw_gen (ls' := [some (vR 23 r0), none, some (vR 8 r2), some (vR 8 r3), some (vR 8 q0), none, some (vI (2 : Int32))]) (st' := []) (And.intro (Or.inl rfl) (And.intro (Or.inl rfl) (And.intro (Or.inl rfl) (And.intro (Or.inl rfl) (And.intro (Or.inl rfl) (trivial)))))) (trivial) ?_
              exact w_X29_at_309 w
          · rw [jsw_miss c_26]
            replace w := w.2
            by_cases c_31 : v_20 = (96370 : Int32)
            · rw [jsw_hit c_31]
              replace w := w.1 c_31
              refine jw_aload (pc' := 266) rfl rfl ?_
              refine jw_ldcS (pc' := 268) rfl rfl rfl rfl ?_
              refine jw_cI (st := []) (sa := [vR 64 (jfr h_12 116 r0), vR 51 (jcs D 157)]) okJ5_equals rfl rfl rfl rfl rfl rfl (jstp_virtual (sa := [vR 51 (jcs D 157)]) (st := []) (k := 0) rfl rfl sJ5_equals okJ5_equals g_17 (one64.k g_17) rfl rfl) w (fun v_34 h_32 _ _ w => ?_)
              refine jw_if_eq (tgt := 309) (pc' := 274) rfl rfl (fun c_35 => ?_) (fun c_35 => ?_)
              · replace w := w.1 c_35
                refine jw_gen (ls' := [some (vR 23 r0), none, some (vR 8 r2), some (vR 8 r3), some (vR 8 q0), none, some (vI (-1 : Int32))]) (st' := []) (And.intro (Or.inl rfl) (And.intro (Or.inl rfl) (And.intro (Or.inl rfl) (And.intro (Or.inl rfl) (And.intro (Or.inl rfl) (trivial)))))) (trivial) ?_
                exact w_X29_at_309 w
              · replace w := w.2 c_35
                refine jw_iconst (pc' := 275) (x := (0 : Int32)) rfl rfl ?_
                refine jw_istore (pc' := 277) (ls' := [some (vR 23 r0), none, some (vR 8 r2), some (vR 8 r3), some (vR 8 q0), some (vR 64 (jfr h_12 116 r0)), some (vI (0 : Int32))]) rfl (by decide) rfl ?_
                refine jw_goto (pc' := 309) rfl rfl ?_
                refine jw_gen (ls' := [some (vR 23 r0), none, some (vR 8 r2), some (vR 8 r3), some (vR 8 q0), none, some (vI (0 : Int32))]) (st' := []) (And.intro (Or.inl rfl) (And.intro (Or.inl rfl) (And.intro (Or.inl rfl) (And.intro (Or.inl rfl) (And.intro (Or.inl rfl) (trivial)))))) (trivial) ?_
                exact w_X29_at_309 w
            · rw [jsw_miss c_31]
              replace w := w.2
              rw [jsw_nil]
              replace w := w c_21 c_26 c_31
              refine jw_gen (ls' := [some (vR 23 r0), none, some (vR 8 r2), some (vR 8 r3), some (vR 8 q0), none, some (vI (-1 : Int32))]) (st' := []) (And.intro (Or.inl rfl) (And.intro (Or.inl rfl) (And.intro (Or.inl rfl) (And.intro (Or.inl rfl) (And.intro (Or.inl rfl) (trivial)))))) (trivial) ?_
              exact w_X29_at_309 w
      · replace w := w.2 c_15
        refine jw_gen (ls' := [some (vR 23 r0), none, none, none, none, none, none]) (st' := []) (And.intro (Or.inl rfl) (trivial)) (trivial) ?_
        exact w_X29_at_207 w
def W_X29_at_179 (D : JD) (d : Nat) (Q : JO → JH → Prop) (r0 : Nat) (r2 : Nat) (r3 : Nat) (q0 : Nat) (h : JH) : Prop :=
  W_X29_at_183 D d Q r0 r2 r3 q0 h
theorem w_X29_at_179 {D : JD} {d : Nat} {Q : JO → JH → Prop} {r0 : Nat} {r2 : Nat} {r3 : Nat} {q0 : Nat} {h : JH} (w : W_X29_at_179 D d Q r0 r2 r3 q0 h) : JW D (d + 1) mX29_at 179 [some (vR 23 r0), none, some (vR 8 r2), some (vR 8 r3), none, none, none] [vR 8 q0] h Q := by
  unfold W_X29_at_179 at w
  refine jw_goto (pc' := 183) rfl rfl ?_
  exact w_X29_at_183 w
def W_X29_at_160 (D : JD) (d : Nat) (Q : JO → JH → Prop) (r0 : Nat) (r1 : Nat) (r2 : Nat) (q0 : Nat) (h : JH) : Prop :=
  r0 ≠ 0 ∧ (((jfi h 112 r0) ≤ (2 : Int32) → W_X29_at_183 D d Q r0 r2 q0 r2 h) ∧ (¬ (jfi h 112 r0) ≤ (2 : Int32) → (jfr h 111 r0) ≠ 0 ∧ jin (2 : Int32) (jln h (jfr h 111 r0)) ∧ ((jar h (jfr h 111 r0) (ixn (2 : Int32))) ≠ 0 ∧ (v55_at D d (jar h (jfr h 111 r0) (ixn (2 : Int32))) r1 h (pR D h 8 (fun v_8 h_6 => W_X29_at_179 D d Q r0 r2 q0 v_8 h_6) (jth Q))))))
theorem w_X29_at_160 {D : JD} {d : Nat} {Q : JO → JH → Prop} {r0 : Nat} {r1 : Nat} {r2 : Nat} {q0 : Nat} {h : JH} (w : W_X29_at_160 D d Q r0 r1 r2 q0 h) : JW D (d + 1) mX29_at 160 [some (vR 23 r0), some (vR 6 r1), some (vR 8 r2), none, none, none, none] [vR 8 q0] h Q := by
  unfold W_X29_at_160 at w
  refine jw_astore_n (pc' := 161) (ls' := [some (vR 23 r0), some (vR 6 r1), some (vR 8 r2), some (vR 8 q0), none, none, none]) rfl (by decide) rfl ?_
  refine jw_aload_n (pc' := 162) rfl rfl ?_
  obtain ⟨g_1, w⟩ := w
  refine jw_getI (pc' := 165) (F := 112) rfl rfl rfl rfl g_1 ?_
  refine jw_iconst (pc' := 166) (x := (2 : Int32)) rfl rfl ?_
  refine jw_icmp_le (tgt := 182) (pc' := 169) rfl rfl (fun c_2 => ?_) (fun c_2 => ?_)
  · replace w := w.1 c_2
    refine jw_aload_n (pc' := 183) rfl rfl ?_
    refine jw_gen (ls' := [some (vR 23 r0), none, some (vR 8 r2), some (vR 8 q0), none, none, none]) (st' := [vR 8 r2]) (And.intro (Or.inl rfl) (And.intro (Or.inl rfl) (And.intro (Or.inl rfl) (trivial)))) (And.intro (Or.inl rfl) (trivial)) ?_
    exact w_X29_at_183 w
  · replace w := w.2 c_2
    refine jw_aload_n (pc' := 170) rfl rfl ?_
    refine jw_getR (pc' := 173) (F := 111) (t' := 77) rfl rfl rfl rfl rfl g_1 ?_
    refine jw_iconst (pc' := 174) (x := (2 : Int32)) rfl rfl ?_
    obtain ⟨g_3, w⟩ := w
    obtain ⟨g_4, w⟩ := w
    refine jw_aald (pc' := 175) (t' := 55) rfl rfl rfl rfl g_3 g_4.ix g_4.2 ?_
    refine jw_aload_n (pc' := 176) rfl rfl ?_
    obtain ⟨g_5, w⟩ := w
    refine JW.inv (fun hI => JW.oks (fun ho => ?_))
    have hkd := und55.k hI (ho (vR 55 (jar h (jfr h 111 r0) (ixn (2 : Int32)))) (by simp)) g_5
    simp only [List.mem_cons, List.not_mem_nil, or_false] at hkd
    clear ho hI
    rcases hkd with e_9 | e_9 | e_9 | e_9 | e_9 | e_9 | e_9 | e_9 | e_9 | e_9
    · refine jw_gen (ls' := _) (st' := [vR 6 r1, vR 20 (jar h (jfr h 111 r0) (ixn (2 : Int32)))]) (jgl_rf _ _) (And.intro (Or.inl rfl) (And.intro (Or.inr ⟨_, _, _, rfl, rfl, Or.inr (Or.inr (by rw [e_9]; rfl))⟩) (jgs_rf _ _))) ?_
      refine jw_cR (st := []) (sa := [vR 20 (jar h (jfr h 111 r0) (ixn (2 : Int32))), vR 6 r1]) okX25_at rfl rfl rfl rfl rfl rfl (jstp_up (sa := [vR 6 r1]) (st := []) rfl (lw_g (jtb_mem (c := 12) (i := 29) rfl) rfl) um28 okX25_at g_5 (fun _ _ => by rw [e_9]; exact ⟨rfl, rfl⟩) rfl rfl) (w.1 e_9) (fun v_8 h_6 _ _ _ w => ?_)
      refine jw_gen (ls' := [some (vR 23 r0), none, some (vR 8 r2), some (vR 8 q0), none, none, none]) (st' := [vR 8 v_8]) (And.intro (Or.inl rfl) (And.intro (Or.inl rfl) (And.intro (Or.inl rfl) (trivial)))) (And.intro (Or.inl rfl) (trivial)) ?_
      exact w_X29_at_179 w
    · refine jw_gen (ls' := _) (st' := [vR 6 r1, vR 21 (jar h (jfr h 111 r0) (ixn (2 : Int32)))]) (jgl_rf _ _) (And.intro (Or.inl rfl) (And.intro (Or.inr ⟨_, _, _, rfl, rfl, Or.inr (Or.inr (by rw [e_9]; rfl))⟩) (jgs_rf _ _))) ?_
      refine jw_cR (st := []) (sa := [vR 21 (jar h (jfr h 111 r0) (ixn (2 : Int32))), vR 6 r1]) okX27_at rfl rfl rfl rfl rfl rfl (jstp_up (sa := [vR 6 r1]) (st := []) rfl (lw_g (jtb_mem (c := 12) (i := 29) rfl) rfl) um29 okX27_at g_5 (fun _ _ => by rw [e_9]; exact ⟨rfl, rfl⟩) rfl rfl) (w.2.1 e_9) (fun v_8 h_6 _ _ _ w => ?_)
      refine jw_gen (ls' := [some (vR 23 r0), none, some (vR 8 r2), some (vR 8 q0), none, none, none]) (st' := [vR 8 v_8]) (And.intro (Or.inl rfl) (And.intro (Or.inl rfl) (And.intro (Or.inl rfl) (trivial)))) (And.intro (Or.inl rfl) (trivial)) ?_
      exact w_X29_at_179 w
    · refine jw_gen (ls' := _) (st' := [vR 6 r1, vR 22 (jar h (jfr h 111 r0) (ixn (2 : Int32)))]) (jgl_rf _ _) (And.intro (Or.inl rfl) (And.intro (Or.inr ⟨_, _, _, rfl, rfl, Or.inr (Or.inr (by rw [e_9]; rfl))⟩) (jgs_rf _ _))) ?_
      refine jw_cR (st := []) (sa := [vR 22 (jar h (jfr h 111 r0) (ixn (2 : Int32))), vR 6 r1]) okX28_at rfl rfl rfl rfl rfl rfl (jstp_up (sa := [vR 6 r1]) (st := []) rfl (lw_g (jtb_mem (c := 12) (i := 29) rfl) rfl) um30 okX28_at g_5 (fun _ _ => by rw [e_9]; exact ⟨rfl, rfl⟩) rfl rfl) (w.2.2.1 e_9) (fun v_8 h_6 _ _ _ w => ?_)
      refine jw_gen (ls' := [some (vR 23 r0), none, some (vR 8 r2), some (vR 8 q0), none, none, none]) (st' := [vR 8 v_8]) (And.intro (Or.inl rfl) (And.intro (Or.inl rfl) (And.intro (Or.inl rfl) (trivial)))) (And.intro (Or.inl rfl) (trivial)) ?_
      exact w_X29_at_179 w
    · refine jw_gen (ls' := _) (st' := [vR 6 r1, vR 23 (jar h (jfr h 111 r0) (ixn (2 : Int32)))]) (jgl_rf _ _) (And.intro (Or.inl rfl) (And.intro (Or.inr ⟨_, _, _, rfl, rfl, Or.inr (Or.inr (by rw [e_9]; rfl))⟩) (jgs_rf _ _))) ?_
      refine jw_cR (st := []) (sa := [vR 23 (jar h (jfr h 111 r0) (ixn (2 : Int32))), vR 6 r1]) okX29_at rfl rfl rfl rfl rfl rfl (jstp_up (sa := [vR 6 r1]) (st := []) rfl (lw_g (jtb_mem (c := 12) (i := 29) rfl) rfl) um31 okX29_at g_5 (fun _ _ => by rw [e_9]; exact ⟨rfl, rfl⟩) rfl rfl) (w.2.2.2.1 e_9) (fun v_8 h_6 _ _ _ w => ?_)
      refine jw_gen (ls' := [some (vR 23 r0), none, some (vR 8 r2), some (vR 8 q0), none, none, none]) (st' := [vR 8 v_8]) (And.intro (Or.inl rfl) (And.intro (Or.inl rfl) (And.intro (Or.inl rfl) (trivial)))) (And.intro (Or.inl rfl) (trivial)) ?_
      exact w_X29_at_179 w
    · refine jw_gen (ls' := _) (st' := [vR 6 r1, vR 24 (jar h (jfr h 111 r0) (ixn (2 : Int32)))]) (jgl_rf _ _) (And.intro (Or.inl rfl) (And.intro (Or.inr ⟨_, _, _, rfl, rfl, Or.inr (Or.inr (by rw [e_9]; rfl))⟩) (jgs_rf _ _))) ?_
      refine jw_cR (st := []) (sa := [vR 24 (jar h (jfr h 111 r0) (ixn (2 : Int32))), vR 6 r1]) okX30_at rfl rfl rfl rfl rfl rfl (jstp_up (sa := [vR 6 r1]) (st := []) rfl (lw_g (jtb_mem (c := 12) (i := 29) rfl) rfl) um32 okX30_at g_5 (fun _ _ => by rw [e_9]; exact ⟨rfl, rfl⟩) rfl rfl) (w.2.2.2.2.1 e_9) (fun v_8 h_6 _ _ _ w => ?_)
      refine jw_gen (ls' := [some (vR 23 r0), none, some (vR 8 r2), some (vR 8 q0), none, none, none]) (st' := [vR 8 v_8]) (And.intro (Or.inl rfl) (And.intro (Or.inl rfl) (And.intro (Or.inl rfl) (trivial)))) (And.intro (Or.inl rfl) (trivial)) ?_
      exact w_X29_at_179 w
    · refine jw_gen (ls' := _) (st' := [vR 6 r1, vR 25 (jar h (jfr h 111 r0) (ixn (2 : Int32)))]) (jgl_rf _ _) (And.intro (Or.inl rfl) (And.intro (Or.inr ⟨_, _, _, rfl, rfl, Or.inr (Or.inr (by rw [e_9]; rfl))⟩) (jgs_rf _ _))) ?_
      refine jw_cR (st := []) (sa := [vR 25 (jar h (jfr h 111 r0) (ixn (2 : Int32))), vR 6 r1]) okX31_at rfl rfl rfl rfl rfl rfl (jstp_up (sa := [vR 6 r1]) (st := []) rfl (lw_g (jtb_mem (c := 12) (i := 29) rfl) rfl) um33 okX31_at g_5 (fun _ _ => by rw [e_9]; exact ⟨rfl, rfl⟩) rfl rfl) (w.2.2.2.2.2.1 e_9) (fun v_8 h_6 _ _ _ w => ?_)
      refine jw_gen (ls' := [some (vR 23 r0), none, some (vR 8 r2), some (vR 8 q0), none, none, none]) (st' := [vR 8 v_8]) (And.intro (Or.inl rfl) (And.intro (Or.inl rfl) (And.intro (Or.inl rfl) (trivial)))) (And.intro (Or.inl rfl) (trivial)) ?_
      exact w_X29_at_179 w
    · refine jw_gen (ls' := _) (st' := [vR 6 r1, vR 26 (jar h (jfr h 111 r0) (ixn (2 : Int32)))]) (jgl_rf _ _) (And.intro (Or.inl rfl) (And.intro (Or.inr ⟨_, _, _, rfl, rfl, Or.inr (Or.inr (by rw [e_9]; rfl))⟩) (jgs_rf _ _))) ?_
      refine jw_cR (st := []) (sa := [vR 26 (jar h (jfr h 111 r0) (ixn (2 : Int32))), vR 6 r1]) okX32_at rfl rfl rfl rfl rfl rfl (jstp_up (sa := [vR 6 r1]) (st := []) rfl (lw_g (jtb_mem (c := 12) (i := 29) rfl) rfl) um34 okX32_at g_5 (fun _ _ => by rw [e_9]; exact ⟨rfl, rfl⟩) rfl rfl) (w.2.2.2.2.2.2.1 e_9) (fun v_8 h_6 _ _ _ w => ?_)
      refine jw_gen (ls' := [some (vR 23 r0), none, some (vR 8 r2), some (vR 8 q0), none, none, none]) (st' := [vR 8 v_8]) (And.intro (Or.inl rfl) (And.intro (Or.inl rfl) (And.intro (Or.inl rfl) (trivial)))) (And.intro (Or.inl rfl) (trivial)) ?_
      exact w_X29_at_179 w
    · refine jw_gen (ls' := _) (st' := [vR 6 r1, vR 27 (jar h (jfr h 111 r0) (ixn (2 : Int32)))]) (jgl_rf _ _) (And.intro (Or.inl rfl) (And.intro (Or.inr ⟨_, _, _, rfl, rfl, Or.inr (Or.inr (by rw [e_9]; rfl))⟩) (jgs_rf _ _))) ?_
      refine jw_cR (st := []) (sa := [vR 27 (jar h (jfr h 111 r0) (ixn (2 : Int32))), vR 6 r1]) okX33_at rfl rfl rfl rfl rfl rfl (jstp_up (sa := [vR 6 r1]) (st := []) rfl (lw_g (jtb_mem (c := 12) (i := 29) rfl) rfl) um35 okX33_at g_5 (fun _ _ => by rw [e_9]; exact ⟨rfl, rfl⟩) rfl rfl) (w.2.2.2.2.2.2.2.1 e_9) (fun v_8 h_6 _ _ _ w => ?_)
      refine jw_gen (ls' := [some (vR 23 r0), none, some (vR 8 r2), some (vR 8 q0), none, none, none]) (st' := [vR 8 v_8]) (And.intro (Or.inl rfl) (And.intro (Or.inl rfl) (And.intro (Or.inl rfl) (trivial)))) (And.intro (Or.inl rfl) (trivial)) ?_
      exact w_X29_at_179 w
    · refine jw_gen (ls' := _) (st' := [vR 6 r1, vR 28 (jar h (jfr h 111 r0) (ixn (2 : Int32)))]) (jgl_rf _ _) (And.intro (Or.inl rfl) (And.intro (Or.inr ⟨_, _, _, rfl, rfl, Or.inr (Or.inr (by rw [e_9]; rfl))⟩) (jgs_rf _ _))) ?_
      refine jw_cR (st := []) (sa := [vR 28 (jar h (jfr h 111 r0) (ixn (2 : Int32))), vR 6 r1]) okX34_at rfl rfl rfl rfl rfl rfl (jstp_up (sa := [vR 6 r1]) (st := []) rfl (lw_g (jtb_mem (c := 12) (i := 29) rfl) rfl) um36 okX34_at g_5 (fun _ _ => by rw [e_9]; exact ⟨rfl, rfl⟩) rfl rfl) (w.2.2.2.2.2.2.2.2.1 e_9) (fun v_8 h_6 _ _ _ w => ?_)
      refine jw_gen (ls' := [some (vR 23 r0), none, some (vR 8 r2), some (vR 8 q0), none, none, none]) (st' := [vR 8 v_8]) (And.intro (Or.inl rfl) (And.intro (Or.inl rfl) (And.intro (Or.inl rfl) (trivial)))) (And.intro (Or.inl rfl) (trivial)) ?_
      exact w_X29_at_179 w
    · refine jw_gen (ls' := _) (st' := [vR 6 r1, vR 29 (jar h (jfr h 111 r0) (ixn (2 : Int32)))]) (jgl_rf _ _) (And.intro (Or.inl rfl) (And.intro (Or.inr ⟨_, _, _, rfl, rfl, Or.inr (Or.inr (by rw [e_9]; rfl))⟩) (jgs_rf _ _))) ?_
      refine jw_cR (st := []) (sa := [vR 29 (jar h (jfr h 111 r0) (ixn (2 : Int32))), vR 6 r1]) okX35_at rfl rfl rfl rfl rfl rfl (jstp_up (sa := [vR 6 r1]) (st := []) rfl (lw_g (jtb_mem (c := 12) (i := 29) rfl) rfl) um37 okX35_at g_5 (fun _ _ => by rw [e_9]; exact ⟨rfl, rfl⟩) rfl rfl) (w.2.2.2.2.2.2.2.2.2 e_9) (fun v_8 h_6 _ _ _ w => ?_)
      refine jw_gen (ls' := [some (vR 23 r0), none, some (vR 8 r2), some (vR 8 q0), none, none, none]) (st' := [vR 8 v_8]) (And.intro (Or.inl rfl) (And.intro (Or.inl rfl) (And.intro (Or.inl rfl) (trivial)))) (And.intro (Or.inl rfl) (trivial)) ?_
      exact w_X29_at_179 w
def W_X29_at_156 (D : JD) (d : Nat) (Q : JO → JH → Prop) (r0 : Nat) (r1 : Nat) (r2 : Nat) (q0 : Nat) (h : JH) : Prop :=
  W_X29_at_160 D d Q r0 r1 r2 q0 h
theorem w_X29_at_156 {D : JD} {d : Nat} {Q : JO → JH → Prop} {r0 : Nat} {r1 : Nat} {r2 : Nat} {q0 : Nat} {h : JH} (w : W_X29_at_156 D d Q r0 r1 r2 q0 h) : JW D (d + 1) mX29_at 156 [some (vR 23 r0), some (vR 6 r1), some (vR 8 r2), none, none, none, none] [vR 8 q0] h Q := by
  unfold W_X29_at_156 at w
  refine jw_goto (pc' := 160) rfl rfl ?_
  exact w_X29_at_160 w
def W_X29_at_137 (D : JD) (d : Nat) (Q : JO → JH → Prop) (q0 : Nat) (h : JH) : Prop :=
  Q (.inl (some (vR 8 q0))) h
theorem w_X29_at_137 {D : JD} {d : Nat} {Q : JO → JH → Prop} {q0 : Nat} {h : JH} (w : W_X29_at_137 D d Q q0 h) : JW D (d + 1) mX29_at 137 [none, none, none, none, none, none, none] [vR 8 q0] h Q := by
  unfold W_X29_at_137 at w
  exact jw_areturn rfl rfl rfl rfl rfl w
def W_X29_at_129 (D : JD) (d : Nat) (Q : JO → JH → Prop) (r0 : Nat) (r2 : Nat) (h : JH) : Prop :=
  r0 ≠ 0 ∧ ((jfr h 108 r0) ≠ 0 ∧ (cX14_copy D d (jfr h 108 r0) r2 h (pR D h 8 (fun v_5 h_3 => W_X29_at_137 D d Q v_5 h_3) (jth Q))))
theorem w_X29_at_129 {D : JD} {d : Nat} {Q : JO → JH → Prop} {r0 : Nat} {r2 : Nat} {h : JH} (w : W_X29_at_129 D d Q r0 r2 h) : JW D (d + 1) mX29_at 129 [some (vR 23 r0), none, some (vR 8 r2), none, none, none, none] [] h Q := by
  unfold W_X29_at_129 at w
  refine jw_aload_n (pc' := 130) rfl rfl ?_
  obtain ⟨g_1, w⟩ := w
  refine jw_getR (pc' := 133) (F := 108) (t' := 98) rfl rfl rfl rfl rfl g_1 ?_
  refine jw_aload_n (pc' := 134) rfl rfl ?_
  obtain ⟨g_2, w⟩ := w
  refine jw_cR (st := []) (sa := [vR 98 (jfr h 108 r0), vR 8 r2]) okX14_copy rfl rfl rfl rfl rfl rfl (jstp_virtual (sa := [vR 8 r2]) (st := []) (k := 0) rfl rfl sX14_copy okX14_copy g_2 (one98.k g_2) rfl rfl) w (fun v_5 h_3 _ _ _ w => ?_)
  refine jw_gen (ls' := [none, none, none, none, none, none, none]) (st' := [vR 8 v_5]) (trivial) (And.intro (Or.inl rfl) (trivial)) ?_
  exact w_X29_at_137 w
def W_X29_at_96 (D : JD) (d : Nat) (Q : JO → JH → Prop) (r0 : Nat) (r2 : Nat) (q0 : Nat) (h : JH) : Prop :=
  r2 ≠ 0 ∧ (cX14_isEmpty D d r2 h (pI D h (fun v_4 h_2 => (¬ v_4 = 0 → W_X29_at_129 D d Q r0 r2 h_2) ∧ (v_4 = 0 → q0 ≠ 0 ∧ (cX14_isEmpty D d q0 h_2 (pI D h_2 (fun v_9 h_7 => (¬ v_9 = 0 → W_X29_at_129 D d Q r0 r2 h_7) ∧ (v_9 = 0 → cX14_order D d r2 q0 h_7 (pI D h_7 (fun v_13 h_11 => (¬ v_13 = 0 → W_X29_at_129 D d Q r0 r2 h_11) ∧ (v_13 = 0 → r0 ≠ 0 ∧ ((jfr h_11 108 r0) ≠ 0 ∧ (cX14_none D d (jfr h_11 108 r0) h_11 (pR D h_11 8 (fun v_19 h_17 => W_X29_at_137 D d Q v_19 h_17) (jth Q)))))) (jth Q)))) (jth Q))))) (jth Q)))
theorem w_X29_at_96 {D : JD} {d : Nat} {Q : JO → JH → Prop} {r0 : Nat} {r2 : Nat} {q0 : Nat} {h : JH} (w : W_X29_at_96 D d Q r0 r2 q0 h) : JW D (d + 1) mX29_at 96 [some (vR 23 r0), none, some (vR 8 r2), none, none, none, none] [vR 8 q0] h Q := by
  unfold W_X29_at_96 at w
  refine jw_astore_n (pc' := 97) (ls' := [some (vR 23 r0), none, some (vR 8 r2), some (vR 8 q0), none, none, none]) rfl (by decide) rfl ?_
  refine jw_aload_n (pc' := 98) rfl rfl ?_
  obtain ⟨g_1, w⟩ := w
  refine jw_cI (st := []) (sa := [vR 8 r2]) okX14_isEmpty rfl rfl rfl rfl rfl rfl (jstp_virtual (sa := []) (st := []) (k := 0) rfl rfl sX14_isEmpty okX14_isEmpty g_1 (one8.k g_1) rfl rfl) w (fun v_4 h_2 _ _ w => ?_)
  refine jw_if_ne (tgt := 129) (pc' := 104) rfl rfl (fun c_5 => ?_) (fun c_5 => ?_)
  · replace w := w.1 c_5
    refine jw_gen (ls' := [some (vR 23 r0), none, some (vR 8 r2), none, none, none, none]) (st' := []) (And.intro (Or.inl rfl) (And.intro (Or.inl rfl) (trivial))) (trivial) ?_
    exact w_X29_at_129 w
  · replace w := w.2 c_5
    refine jw_aload_n (pc' := 105) rfl rfl ?_
    obtain ⟨g_6, w⟩ := w
    refine jw_cI (st := []) (sa := [vR 8 q0]) okX14_isEmpty rfl rfl rfl rfl rfl rfl (jstp_virtual (sa := []) (st := []) (k := 0) rfl rfl sX14_isEmpty okX14_isEmpty g_6 (one8.k g_6) rfl rfl) w (fun v_9 h_7 _ _ w => ?_)
    refine jw_if_ne (tgt := 129) (pc' := 111) rfl rfl (fun c_10 => ?_) (fun c_10 => ?_)
    · replace w := w.1 c_10
      refine jw_gen (ls' := [some (vR 23 r0), none, some (vR 8 r2), none, none, none, none]) (st' := []) (And.intro (Or.inl rfl) (And.intro (Or.inl rfl) (trivial))) (trivial) ?_
      exact w_X29_at_129 w
    · replace w := w.2 c_10
      refine jw_aload_n (pc' := 112) rfl rfl ?_
      refine jw_aload_n (pc' := 113) rfl rfl ?_
      refine jw_cI (st := []) (sa := [vR 8 r2, vR 8 q0]) okX14_order rfl rfl rfl rfl rfl rfl (jstp_virtual (sa := [vR 8 q0]) (st := []) (k := 0) rfl rfl sX14_order okX14_order g_1 (one8.k g_1) rfl rfl) w (fun v_13 h_11 _ _ w => ?_)
      refine jw_if_ne (tgt := 129) (pc' := 119) rfl rfl (fun c_14 => ?_) (fun c_14 => ?_)
      · replace w := w.1 c_14
        refine jw_gen (ls' := [some (vR 23 r0), none, some (vR 8 r2), none, none, none, none]) (st' := []) (And.intro (Or.inl rfl) (And.intro (Or.inl rfl) (trivial))) (trivial) ?_
        exact w_X29_at_129 w
      · replace w := w.2 c_14
        refine jw_aload_n (pc' := 120) rfl rfl ?_
        obtain ⟨g_15, w⟩ := w
        refine jw_getR (pc' := 123) (F := 108) (t' := 98) rfl rfl rfl rfl rfl g_15 ?_
        obtain ⟨g_16, w⟩ := w
        refine jw_cR (st := []) (sa := [vR 98 (jfr h_11 108 r0)]) okX14_none rfl rfl rfl rfl rfl rfl (jstp_virtual (sa := []) (st := []) (k := 0) rfl rfl sX14_none okX14_none g_16 (one98.k g_16) rfl rfl) w (fun v_19 h_17 _ _ _ w => ?_)
        refine jw_goto (pc' := 137) rfl rfl ?_
        refine jw_gen (ls' := [none, none, none, none, none, none, none]) (st' := [vR 8 v_19]) (trivial) (And.intro (Or.inl rfl) (trivial)) ?_
        exact w_X29_at_137 w
def W_X29_at_73 (D : JD) (d : Nat) (Q : JO → JH → Prop) (r0 : Nat) (r1 : Nat) (q0 : Nat) (h : JH) : Prop :=
  r0 ≠ 0 ∧ ((jfr h 116 r0) ≠ 0 ∧ (cJ5_equals D d (jfr h 116 r0) (jcs D 163) h (pI D h (fun v_5 h_3 => (v_5 = 0 → ((jfi h_3 112 r0) ≤ (1 : Int32) → W_X29_at_160 D d Q r0 r1 q0 q0 h_3) ∧ (¬ (jfi h_3 112 r0) ≤ (1 : Int32) → (jfr h_3 111 r0) ≠ 0 ∧ jin (1 : Int32) (jln h_3 (jfr h_3 111 r0)) ∧ ((jar h_3 (jfr h_3 111 r0) (ixn (1 : Int32))) ≠ 0 ∧ (v55_at D d (jar h_3 (jfr h_3 111 r0) (ixn (1 : Int32))) r1 h_3 (pR D h_3 8 (fun v_13 h_11 => W_X29_at_156 D d Q r0 r1 q0 v_13 h_11) (jth Q)))))) ∧ (¬ v_5 = 0 → (jfr h_3 111 r0) ≠ 0 ∧ jin (1 : Int32) (jln h_3 (jfr h_3 111 r0)) ∧ ((jar h_3 (jfr h_3 111 r0) (ixn (1 : Int32))) ≠ 0 ∧ (v55_at D d (jar h_3 (jfr h_3 111 r0) (ixn (1 : Int32))) r1 h_3 (pR D h_3 8 (fun v_20 h_18 => W_X29_at_96 D d Q r0 q0 v_20 h_18) (jth Q)))))) (jth Q))))
theorem w_X29_at_73 {D : JD} {d : Nat} {Q : JO → JH → Prop} {r0 : Nat} {r1 : Nat} {q0 : Nat} {h : JH} (w : W_X29_at_73 D d Q r0 r1 q0 h) : JW D (d + 1) mX29_at 73 [some (vR 23 r0), some (vR 6 r1), none, none, none, none, none] [vR 8 q0] h Q := by
  unfold W_X29_at_73 at w
  refine jw_astore_n (pc' := 74) (ls' := [some (vR 23 r0), some (vR 6 r1), some (vR 8 q0), none, none, none, none]) rfl (by decide) rfl ?_
  refine jw_aload_n (pc' := 75) rfl rfl ?_
  obtain ⟨g_1, w⟩ := w
  refine jw_getR (pc' := 78) (F := 116) (t' := 64) rfl rfl rfl rfl rfl g_1 ?_
  refine jw_ldcS (pc' := 80) rfl rfl rfl rfl ?_
  obtain ⟨g_2, w⟩ := w
  refine jw_cI (st := []) (sa := [vR 64 (jfr h 116 r0), vR 51 (jcs D 163)]) okJ5_equals rfl rfl rfl rfl rfl rfl (jstp_virtual (sa := [vR 51 (jcs D 163)]) (st := []) (k := 0) rfl rfl sJ5_equals okJ5_equals g_2 (one64.k g_2) rfl rfl) w (fun v_5 h_3 _ _ w => ?_)
  refine jw_if_eq (tgt := 138) (pc' := 86) rfl rfl (fun c_6 => ?_) (fun c_6 => ?_)
  · replace w := w.1 c_6
    refine jw_aload_n (pc' := 139) rfl rfl ?_
    refine jw_getI (pc' := 142) (F := 112) rfl rfl rfl rfl g_1 ?_
    refine jw_iconst (pc' := 143) (x := (1 : Int32)) rfl rfl ?_
    refine jw_icmp_le (tgt := 159) (pc' := 146) rfl rfl (fun c_7 => ?_) (fun c_7 => ?_)
    · replace w := w.1 c_7
      refine jw_aload_n (pc' := 160) rfl rfl ?_
      exact w_X29_at_160 w
    · replace w := w.2 c_7
      refine jw_aload_n (pc' := 147) rfl rfl ?_
      refine jw_getR (pc' := 150) (F := 111) (t' := 77) rfl rfl rfl rfl rfl g_1 ?_
      refine jw_iconst (pc' := 151) (x := (1 : Int32)) rfl rfl ?_
      obtain ⟨g_8, w⟩ := w
      obtain ⟨g_9, w⟩ := w
      refine jw_aald (pc' := 152) (t' := 55) rfl rfl rfl rfl g_8 g_9.ix g_9.2 ?_
      refine jw_aload_n (pc' := 153) rfl rfl ?_
      obtain ⟨g_10, w⟩ := w
      refine JW.inv (fun hI => JW.oks (fun ho => ?_))
      have hkd := und55.k hI (ho (vR 55 (jar h_3 (jfr h_3 111 r0) (ixn (1 : Int32)))) (by simp)) g_10
      simp only [List.mem_cons, List.not_mem_nil, or_false] at hkd
      clear ho hI
      rcases hkd with e_14 | e_14 | e_14 | e_14 | e_14 | e_14 | e_14 | e_14 | e_14 | e_14
      · refine jw_gen (ls' := _) (st' := [vR 6 r1, vR 20 (jar h_3 (jfr h_3 111 r0) (ixn (1 : Int32)))]) (jgl_rf _ _) (And.intro (Or.inl rfl) (And.intro (Or.inr ⟨_, _, _, rfl, rfl, Or.inr (Or.inr (by rw [e_14]; rfl))⟩) (jgs_rf _ _))) ?_
        refine jw_cR (st := []) (sa := [vR 20 (jar h_3 (jfr h_3 111 r0) (ixn (1 : Int32))), vR 6 r1]) okX25_at rfl rfl rfl rfl rfl rfl (jstp_up (sa := [vR 6 r1]) (st := []) rfl (lw_g (jtb_mem (c := 12) (i := 29) rfl) rfl) um28 okX25_at g_10 (fun _ _ => by rw [e_14]; exact ⟨rfl, rfl⟩) rfl rfl) (w.1 e_14) (fun v_13 h_11 _ _ _ w => ?_)
        exact w_X29_at_156 w
      · refine jw_gen (ls' := _) (st' := [vR 6 r1, vR 21 (jar h_3 (jfr h_3 111 r0) (ixn (1 : Int32)))]) (jgl_rf _ _) (And.intro (Or.inl rfl) (And.intro (Or.inr ⟨_, _, _, rfl, rfl, Or.inr (Or.inr (by rw [e_14]; rfl))⟩) (jgs_rf _ _))) ?_
        refine jw_cR (st := []) (sa := [vR 21 (jar h_3 (jfr h_3 111 r0) (ixn (1 : Int32))), vR 6 r1]) okX27_at rfl rfl rfl rfl rfl rfl (jstp_up (sa := [vR 6 r1]) (st := []) rfl (lw_g (jtb_mem (c := 12) (i := 29) rfl) rfl) um29 okX27_at g_10 (fun _ _ => by rw [e_14]; exact ⟨rfl, rfl⟩) rfl rfl) (w.2.1 e_14) (fun v_13 h_11 _ _ _ w => ?_)
        exact w_X29_at_156 w
      · refine jw_gen (ls' := _) (st' := [vR 6 r1, vR 22 (jar h_3 (jfr h_3 111 r0) (ixn (1 : Int32)))]) (jgl_rf _ _) (And.intro (Or.inl rfl) (And.intro (Or.inr ⟨_, _, _, rfl, rfl, Or.inr (Or.inr (by rw [e_14]; rfl))⟩) (jgs_rf _ _))) ?_
        refine jw_cR (st := []) (sa := [vR 22 (jar h_3 (jfr h_3 111 r0) (ixn (1 : Int32))), vR 6 r1]) okX28_at rfl rfl rfl rfl rfl rfl (jstp_up (sa := [vR 6 r1]) (st := []) rfl (lw_g (jtb_mem (c := 12) (i := 29) rfl) rfl) um30 okX28_at g_10 (fun _ _ => by rw [e_14]; exact ⟨rfl, rfl⟩) rfl rfl) (w.2.2.1 e_14) (fun v_13 h_11 _ _ _ w => ?_)
        exact w_X29_at_156 w
      · refine jw_gen (ls' := _) (st' := [vR 6 r1, vR 23 (jar h_3 (jfr h_3 111 r0) (ixn (1 : Int32)))]) (jgl_rf _ _) (And.intro (Or.inl rfl) (And.intro (Or.inr ⟨_, _, _, rfl, rfl, Or.inr (Or.inr (by rw [e_14]; rfl))⟩) (jgs_rf _ _))) ?_
        refine jw_cR (st := []) (sa := [vR 23 (jar h_3 (jfr h_3 111 r0) (ixn (1 : Int32))), vR 6 r1]) okX29_at rfl rfl rfl rfl rfl rfl (jstp_up (sa := [vR 6 r1]) (st := []) rfl (lw_g (jtb_mem (c := 12) (i := 29) rfl) rfl) um31 okX29_at g_10 (fun _ _ => by rw [e_14]; exact ⟨rfl, rfl⟩) rfl rfl) (w.2.2.2.1 e_14) (fun v_13 h_11 _ _ _ w => ?_)
        exact w_X29_at_156 w
      · refine jw_gen (ls' := _) (st' := [vR 6 r1, vR 24 (jar h_3 (jfr h_3 111 r0) (ixn (1 : Int32)))]) (jgl_rf _ _) (And.intro (Or.inl rfl) (And.intro (Or.inr ⟨_, _, _, rfl, rfl, Or.inr (Or.inr (by rw [e_14]; rfl))⟩) (jgs_rf _ _))) ?_
        refine jw_cR (st := []) (sa := [vR 24 (jar h_3 (jfr h_3 111 r0) (ixn (1 : Int32))), vR 6 r1]) okX30_at rfl rfl rfl rfl rfl rfl (jstp_up (sa := [vR 6 r1]) (st := []) rfl (lw_g (jtb_mem (c := 12) (i := 29) rfl) rfl) um32 okX30_at g_10 (fun _ _ => by rw [e_14]; exact ⟨rfl, rfl⟩) rfl rfl) (w.2.2.2.2.1 e_14) (fun v_13 h_11 _ _ _ w => ?_)
        exact w_X29_at_156 w
      · refine jw_gen (ls' := _) (st' := [vR 6 r1, vR 25 (jar h_3 (jfr h_3 111 r0) (ixn (1 : Int32)))]) (jgl_rf _ _) (And.intro (Or.inl rfl) (And.intro (Or.inr ⟨_, _, _, rfl, rfl, Or.inr (Or.inr (by rw [e_14]; rfl))⟩) (jgs_rf _ _))) ?_
        refine jw_cR (st := []) (sa := [vR 25 (jar h_3 (jfr h_3 111 r0) (ixn (1 : Int32))), vR 6 r1]) okX31_at rfl rfl rfl rfl rfl rfl (jstp_up (sa := [vR 6 r1]) (st := []) rfl (lw_g (jtb_mem (c := 12) (i := 29) rfl) rfl) um33 okX31_at g_10 (fun _ _ => by rw [e_14]; exact ⟨rfl, rfl⟩) rfl rfl) (w.2.2.2.2.2.1 e_14) (fun v_13 h_11 _ _ _ w => ?_)
        exact w_X29_at_156 w
      · refine jw_gen (ls' := _) (st' := [vR 6 r1, vR 26 (jar h_3 (jfr h_3 111 r0) (ixn (1 : Int32)))]) (jgl_rf _ _) (And.intro (Or.inl rfl) (And.intro (Or.inr ⟨_, _, _, rfl, rfl, Or.inr (Or.inr (by rw [e_14]; rfl))⟩) (jgs_rf _ _))) ?_
        refine jw_cR (st := []) (sa := [vR 26 (jar h_3 (jfr h_3 111 r0) (ixn (1 : Int32))), vR 6 r1]) okX32_at rfl rfl rfl rfl rfl rfl (jstp_up (sa := [vR 6 r1]) (st := []) rfl (lw_g (jtb_mem (c := 12) (i := 29) rfl) rfl) um34 okX32_at g_10 (fun _ _ => by rw [e_14]; exact ⟨rfl, rfl⟩) rfl rfl) (w.2.2.2.2.2.2.1 e_14) (fun v_13 h_11 _ _ _ w => ?_)
        exact w_X29_at_156 w
      · refine jw_gen (ls' := _) (st' := [vR 6 r1, vR 27 (jar h_3 (jfr h_3 111 r0) (ixn (1 : Int32)))]) (jgl_rf _ _) (And.intro (Or.inl rfl) (And.intro (Or.inr ⟨_, _, _, rfl, rfl, Or.inr (Or.inr (by rw [e_14]; rfl))⟩) (jgs_rf _ _))) ?_
        refine jw_cR (st := []) (sa := [vR 27 (jar h_3 (jfr h_3 111 r0) (ixn (1 : Int32))), vR 6 r1]) okX33_at rfl rfl rfl rfl rfl rfl (jstp_up (sa := [vR 6 r1]) (st := []) rfl (lw_g (jtb_mem (c := 12) (i := 29) rfl) rfl) um35 okX33_at g_10 (fun _ _ => by rw [e_14]; exact ⟨rfl, rfl⟩) rfl rfl) (w.2.2.2.2.2.2.2.1 e_14) (fun v_13 h_11 _ _ _ w => ?_)
        exact w_X29_at_156 w
      · refine jw_gen (ls' := _) (st' := [vR 6 r1, vR 28 (jar h_3 (jfr h_3 111 r0) (ixn (1 : Int32)))]) (jgl_rf _ _) (And.intro (Or.inl rfl) (And.intro (Or.inr ⟨_, _, _, rfl, rfl, Or.inr (Or.inr (by rw [e_14]; rfl))⟩) (jgs_rf _ _))) ?_
        refine jw_cR (st := []) (sa := [vR 28 (jar h_3 (jfr h_3 111 r0) (ixn (1 : Int32))), vR 6 r1]) okX34_at rfl rfl rfl rfl rfl rfl (jstp_up (sa := [vR 6 r1]) (st := []) rfl (lw_g (jtb_mem (c := 12) (i := 29) rfl) rfl) um36 okX34_at g_10 (fun _ _ => by rw [e_14]; exact ⟨rfl, rfl⟩) rfl rfl) (w.2.2.2.2.2.2.2.2.1 e_14) (fun v_13 h_11 _ _ _ w => ?_)
        exact w_X29_at_156 w
      · refine jw_gen (ls' := _) (st' := [vR 6 r1, vR 29 (jar h_3 (jfr h_3 111 r0) (ixn (1 : Int32)))]) (jgl_rf _ _) (And.intro (Or.inl rfl) (And.intro (Or.inr ⟨_, _, _, rfl, rfl, Or.inr (Or.inr (by rw [e_14]; rfl))⟩) (jgs_rf _ _))) ?_
        refine jw_cR (st := []) (sa := [vR 29 (jar h_3 (jfr h_3 111 r0) (ixn (1 : Int32))), vR 6 r1]) okX35_at rfl rfl rfl rfl rfl rfl (jstp_up (sa := [vR 6 r1]) (st := []) rfl (lw_g (jtb_mem (c := 12) (i := 29) rfl) rfl) um37 okX35_at g_10 (fun _ _ => by rw [e_14]; exact ⟨rfl, rfl⟩) rfl rfl) (w.2.2.2.2.2.2.2.2.2 e_14) (fun v_13 h_11 _ _ _ w => ?_)
        exact w_X29_at_156 w
  · replace w := w.2 c_6
    refine jw_aload_n (pc' := 87) rfl rfl ?_
    refine jw_getR (pc' := 90) (F := 111) (t' := 77) rfl rfl rfl rfl rfl g_1 ?_
    refine jw_iconst (pc' := 91) (x := (1 : Int32)) rfl rfl ?_
    obtain ⟨g_15, w⟩ := w
    obtain ⟨g_16, w⟩ := w
    refine jw_aald (pc' := 92) (t' := 55) rfl rfl rfl rfl g_15 g_16.ix g_16.2 ?_
    refine jw_aload_n (pc' := 93) rfl rfl ?_
    obtain ⟨g_17, w⟩ := w
    refine JW.inv (fun hI => JW.oks (fun ho => ?_))
    have hkd := und55.k hI (ho (vR 55 (jar h_3 (jfr h_3 111 r0) (ixn (1 : Int32)))) (by simp)) g_17
    simp only [List.mem_cons, List.not_mem_nil, or_false] at hkd
    clear ho hI
    rcases hkd with e_21 | e_21 | e_21 | e_21 | e_21 | e_21 | e_21 | e_21 | e_21 | e_21
    · refine jw_gen (ls' := _) (st' := [vR 6 r1, vR 20 (jar h_3 (jfr h_3 111 r0) (ixn (1 : Int32)))]) (jgl_rf _ _) (And.intro (Or.inl rfl) (And.intro (Or.inr ⟨_, _, _, rfl, rfl, Or.inr (Or.inr (by rw [e_21]; rfl))⟩) (jgs_rf _ _))) ?_
      refine jw_cR (st := []) (sa := [vR 20 (jar h_3 (jfr h_3 111 r0) (ixn (1 : Int32))), vR 6 r1]) okX25_at rfl rfl rfl rfl rfl rfl (jstp_up (sa := [vR 6 r1]) (st := []) rfl (lw_g (jtb_mem (c := 12) (i := 29) rfl) rfl) um28 okX25_at g_17 (fun _ _ => by rw [e_21]; exact ⟨rfl, rfl⟩) rfl rfl) (w.1 e_21) (fun v_20 h_18 _ _ _ w => ?_)
      refine jw_gen (ls' := [some (vR 23 r0), none, some (vR 8 q0), none, none, none, none]) (st' := [vR 8 v_20]) (And.intro (Or.inl rfl) (And.intro (Or.inl rfl) (trivial))) (And.intro (Or.inl rfl) (trivial)) ?_
      exact w_X29_at_96 w
    · refine jw_gen (ls' := _) (st' := [vR 6 r1, vR 21 (jar h_3 (jfr h_3 111 r0) (ixn (1 : Int32)))]) (jgl_rf _ _) (And.intro (Or.inl rfl) (And.intro (Or.inr ⟨_, _, _, rfl, rfl, Or.inr (Or.inr (by rw [e_21]; rfl))⟩) (jgs_rf _ _))) ?_
      refine jw_cR (st := []) (sa := [vR 21 (jar h_3 (jfr h_3 111 r0) (ixn (1 : Int32))), vR 6 r1]) okX27_at rfl rfl rfl rfl rfl rfl (jstp_up (sa := [vR 6 r1]) (st := []) rfl (lw_g (jtb_mem (c := 12) (i := 29) rfl) rfl) um29 okX27_at g_17 (fun _ _ => by rw [e_21]; exact ⟨rfl, rfl⟩) rfl rfl) (w.2.1 e_21) (fun v_20 h_18 _ _ _ w => ?_)
      refine jw_gen (ls' := [some (vR 23 r0), none, some (vR 8 q0), none, none, none, none]) (st' := [vR 8 v_20]) (And.intro (Or.inl rfl) (And.intro (Or.inl rfl) (trivial))) (And.intro (Or.inl rfl) (trivial)) ?_
      exact w_X29_at_96 w
    · refine jw_gen (ls' := _) (st' := [vR 6 r1, vR 22 (jar h_3 (jfr h_3 111 r0) (ixn (1 : Int32)))]) (jgl_rf _ _) (And.intro (Or.inl rfl) (And.intro (Or.inr ⟨_, _, _, rfl, rfl, Or.inr (Or.inr (by rw [e_21]; rfl))⟩) (jgs_rf _ _))) ?_
      refine jw_cR (st := []) (sa := [vR 22 (jar h_3 (jfr h_3 111 r0) (ixn (1 : Int32))), vR 6 r1]) okX28_at rfl rfl rfl rfl rfl rfl (jstp_up (sa := [vR 6 r1]) (st := []) rfl (lw_g (jtb_mem (c := 12) (i := 29) rfl) rfl) um30 okX28_at g_17 (fun _ _ => by rw [e_21]; exact ⟨rfl, rfl⟩) rfl rfl) (w.2.2.1 e_21) (fun v_20 h_18 _ _ _ w => ?_)
      refine jw_gen (ls' := [some (vR 23 r0), none, some (vR 8 q0), none, none, none, none]) (st' := [vR 8 v_20]) (And.intro (Or.inl rfl) (And.intro (Or.inl rfl) (trivial))) (And.intro (Or.inl rfl) (trivial)) ?_
      exact w_X29_at_96 w
    · refine jw_gen (ls' := _) (st' := [vR 6 r1, vR 23 (jar h_3 (jfr h_3 111 r0) (ixn (1 : Int32)))]) (jgl_rf _ _) (And.intro (Or.inl rfl) (And.intro (Or.inr ⟨_, _, _, rfl, rfl, Or.inr (Or.inr (by rw [e_21]; rfl))⟩) (jgs_rf _ _))) ?_
      refine jw_cR (st := []) (sa := [vR 23 (jar h_3 (jfr h_3 111 r0) (ixn (1 : Int32))), vR 6 r1]) okX29_at rfl rfl rfl rfl rfl rfl (jstp_up (sa := [vR 6 r1]) (st := []) rfl (lw_g (jtb_mem (c := 12) (i := 29) rfl) rfl) um31 okX29_at g_17 (fun _ _ => by rw [e_21]; exact ⟨rfl, rfl⟩) rfl rfl) (w.2.2.2.1 e_21) (fun v_20 h_18 _ _ _ w => ?_)
      refine jw_gen (ls' := [some (vR 23 r0), none, some (vR 8 q0), none, none, none, none]) (st' := [vR 8 v_20]) (And.intro (Or.inl rfl) (And.intro (Or.inl rfl) (trivial))) (And.intro (Or.inl rfl) (trivial)) ?_
      exact w_X29_at_96 w
    · refine jw_gen (ls' := _) (st' := [vR 6 r1, vR 24 (jar h_3 (jfr h_3 111 r0) (ixn (1 : Int32)))]) (jgl_rf _ _) (And.intro (Or.inl rfl) (And.intro (Or.inr ⟨_, _, _, rfl, rfl, Or.inr (Or.inr (by rw [e_21]; rfl))⟩) (jgs_rf _ _))) ?_
      refine jw_cR (st := []) (sa := [vR 24 (jar h_3 (jfr h_3 111 r0) (ixn (1 : Int32))), vR 6 r1]) okX30_at rfl rfl rfl rfl rfl rfl (jstp_up (sa := [vR 6 r1]) (st := []) rfl (lw_g (jtb_mem (c := 12) (i := 29) rfl) rfl) um32 okX30_at g_17 (fun _ _ => by rw [e_21]; exact ⟨rfl, rfl⟩) rfl rfl) (w.2.2.2.2.1 e_21) (fun v_20 h_18 _ _ _ w => ?_)
      refine jw_gen (ls' := [some (vR 23 r0), none, some (vR 8 q0), none, none, none, none]) (st' := [vR 8 v_20]) (And.intro (Or.inl rfl) (And.intro (Or.inl rfl) (trivial))) (And.intro (Or.inl rfl) (trivial)) ?_
      exact w_X29_at_96 w
    · refine jw_gen (ls' := _) (st' := [vR 6 r1, vR 25 (jar h_3 (jfr h_3 111 r0) (ixn (1 : Int32)))]) (jgl_rf _ _) (And.intro (Or.inl rfl) (And.intro (Or.inr ⟨_, _, _, rfl, rfl, Or.inr (Or.inr (by rw [e_21]; rfl))⟩) (jgs_rf _ _))) ?_
      refine jw_cR (st := []) (sa := [vR 25 (jar h_3 (jfr h_3 111 r0) (ixn (1 : Int32))), vR 6 r1]) okX31_at rfl rfl rfl rfl rfl rfl (jstp_up (sa := [vR 6 r1]) (st := []) rfl (lw_g (jtb_mem (c := 12) (i := 29) rfl) rfl) um33 okX31_at g_17 (fun _ _ => by rw [e_21]; exact ⟨rfl, rfl⟩) rfl rfl) (w.2.2.2.2.2.1 e_21) (fun v_20 h_18 _ _ _ w => ?_)
      refine jw_gen (ls' := [some (vR 23 r0), none, some (vR 8 q0), none, none, none, none]) (st' := [vR 8 v_20]) (And.intro (Or.inl rfl) (And.intro (Or.inl rfl) (trivial))) (And.intro (Or.inl rfl) (trivial)) ?_
      exact w_X29_at_96 w
    · refine jw_gen (ls' := _) (st' := [vR 6 r1, vR 26 (jar h_3 (jfr h_3 111 r0) (ixn (1 : Int32)))]) (jgl_rf _ _) (And.intro (Or.inl rfl) (And.intro (Or.inr ⟨_, _, _, rfl, rfl, Or.inr (Or.inr (by rw [e_21]; rfl))⟩) (jgs_rf _ _))) ?_
      refine jw_cR (st := []) (sa := [vR 26 (jar h_3 (jfr h_3 111 r0) (ixn (1 : Int32))), vR 6 r1]) okX32_at rfl rfl rfl rfl rfl rfl (jstp_up (sa := [vR 6 r1]) (st := []) rfl (lw_g (jtb_mem (c := 12) (i := 29) rfl) rfl) um34 okX32_at g_17 (fun _ _ => by rw [e_21]; exact ⟨rfl, rfl⟩) rfl rfl) (w.2.2.2.2.2.2.1 e_21) (fun v_20 h_18 _ _ _ w => ?_)
      refine jw_gen (ls' := [some (vR 23 r0), none, some (vR 8 q0), none, none, none, none]) (st' := [vR 8 v_20]) (And.intro (Or.inl rfl) (And.intro (Or.inl rfl) (trivial))) (And.intro (Or.inl rfl) (trivial)) ?_
      exact w_X29_at_96 w
    · refine jw_gen (ls' := _) (st' := [vR 6 r1, vR 27 (jar h_3 (jfr h_3 111 r0) (ixn (1 : Int32)))]) (jgl_rf _ _) (And.intro (Or.inl rfl) (And.intro (Or.inr ⟨_, _, _, rfl, rfl, Or.inr (Or.inr (by rw [e_21]; rfl))⟩) (jgs_rf _ _))) ?_
      refine jw_cR (st := []) (sa := [vR 27 (jar h_3 (jfr h_3 111 r0) (ixn (1 : Int32))), vR 6 r1]) okX33_at rfl rfl rfl rfl rfl rfl (jstp_up (sa := [vR 6 r1]) (st := []) rfl (lw_g (jtb_mem (c := 12) (i := 29) rfl) rfl) um35 okX33_at g_17 (fun _ _ => by rw [e_21]; exact ⟨rfl, rfl⟩) rfl rfl) (w.2.2.2.2.2.2.2.1 e_21) (fun v_20 h_18 _ _ _ w => ?_)
      refine jw_gen (ls' := [some (vR 23 r0), none, some (vR 8 q0), none, none, none, none]) (st' := [vR 8 v_20]) (And.intro (Or.inl rfl) (And.intro (Or.inl rfl) (trivial))) (And.intro (Or.inl rfl) (trivial)) ?_
      exact w_X29_at_96 w
    · refine jw_gen (ls' := _) (st' := [vR 6 r1, vR 28 (jar h_3 (jfr h_3 111 r0) (ixn (1 : Int32)))]) (jgl_rf _ _) (And.intro (Or.inl rfl) (And.intro (Or.inr ⟨_, _, _, rfl, rfl, Or.inr (Or.inr (by rw [e_21]; rfl))⟩) (jgs_rf _ _))) ?_
      refine jw_cR (st := []) (sa := [vR 28 (jar h_3 (jfr h_3 111 r0) (ixn (1 : Int32))), vR 6 r1]) okX34_at rfl rfl rfl rfl rfl rfl (jstp_up (sa := [vR 6 r1]) (st := []) rfl (lw_g (jtb_mem (c := 12) (i := 29) rfl) rfl) um36 okX34_at g_17 (fun _ _ => by rw [e_21]; exact ⟨rfl, rfl⟩) rfl rfl) (w.2.2.2.2.2.2.2.2.1 e_21) (fun v_20 h_18 _ _ _ w => ?_)
      refine jw_gen (ls' := [some (vR 23 r0), none, some (vR 8 q0), none, none, none, none]) (st' := [vR 8 v_20]) (And.intro (Or.inl rfl) (And.intro (Or.inl rfl) (trivial))) (And.intro (Or.inl rfl) (trivial)) ?_
      exact w_X29_at_96 w
    · refine jw_gen (ls' := _) (st' := [vR 6 r1, vR 29 (jar h_3 (jfr h_3 111 r0) (ixn (1 : Int32)))]) (jgl_rf _ _) (And.intro (Or.inl rfl) (And.intro (Or.inr ⟨_, _, _, rfl, rfl, Or.inr (Or.inr (by rw [e_21]; rfl))⟩) (jgs_rf _ _))) ?_
      refine jw_cR (st := []) (sa := [vR 29 (jar h_3 (jfr h_3 111 r0) (ixn (1 : Int32))), vR 6 r1]) okX35_at rfl rfl rfl rfl rfl rfl (jstp_up (sa := [vR 6 r1]) (st := []) rfl (lw_g (jtb_mem (c := 12) (i := 29) rfl) rfl) um37 okX35_at g_17 (fun _ _ => by rw [e_21]; exact ⟨rfl, rfl⟩) rfl rfl) (w.2.2.2.2.2.2.2.2.2 e_21) (fun v_20 h_18 _ _ _ w => ?_)
      refine jw_gen (ls' := [some (vR 23 r0), none, some (vR 8 q0), none, none, none, none]) (st' := [vR 8 v_20]) (And.intro (Or.inl rfl) (And.intro (Or.inl rfl) (trivial))) (And.intro (Or.inl rfl) (trivial)) ?_
      exact w_X29_at_96 w
def W_X29_at_32 (D : JD) (d : Nat) (Q : JO → JH → Prop) (K14 : Nat → Nat → Int32 → JH → Prop) (r0 : Nat) (r1 : Nat) (x2 : Int32) (q0 : Nat) (h : JH) : Prop :=
  q0 ≠ 0 ∧ (cX14_isEmpty D d q0 h (pI D h (fun v_4 h_2 => (¬ v_4 = 0 → K14 r0 r1 (x2 + (1 : Int32)) h_2) ∧ (v_4 = 0 → r0 ≠ 0 ∧ ((jfr h_2 108 r0) ≠ 0 ∧ (cX14_copy D d (jfr h_2 108 r0) q0 h_2 (pR D h_2 8 (fun v_10 h_8 => Q (.inl (some (vR 8 v_10))) h_8) (jth Q)))))) (jth Q)))
theorem w_X29_at_32 {D : JD} {d : Nat} {Q : JO → JH → Prop} {K14 : Nat → Nat → Int32 → JH → Prop} {r0 : Nat} {r1 : Nat} {x2 : Int32} {q0 : Nat} {h : JH} (hK14 : ∀ (r0 : Nat) (r1 : Nat) (x2 : Int32) (h : JH), K14 r0 r1 x2 h → JW D (d + 1) mX29_at 14 [some (vR 23 r0), some (vR 6 r1), some (vI x2), none, none, none, none] [] h Q) (w : W_X29_at_32 D d Q K14 r0 r1 x2 q0 h) : JW D (d + 1) mX29_at 32 [some (vR 23 r0), some (vR 6 r1), some (vI x2), none, none, none, none] [vR 8 q0] h Q := by
  unfold W_X29_at_32 at w
  refine jw_astore_n (pc' := 33) (ls' := [some (vR 23 r0), some (vR 6 r1), some (vI x2), some (vR 8 q0), none, none, none]) rfl (by decide) rfl ?_
  refine jw_aload_n (pc' := 34) rfl rfl ?_
  obtain ⟨g_1, w⟩ := w
  refine jw_cI (st := []) (sa := [vR 8 q0]) okX14_isEmpty rfl rfl rfl rfl rfl rfl (jstp_virtual (sa := []) (st := []) (k := 0) rfl rfl sX14_isEmpty okX14_isEmpty g_1 (one8.k g_1) rfl rfl) w (fun v_4 h_2 _ _ w => ?_)
  refine jw_if_ne (tgt := 49) (pc' := 40) rfl rfl (fun c_5 => ?_) (fun c_5 => ?_)
  · replace w := w.1 c_5
    refine jw_iinc (pc' := 52) (y := x2 + (1 : Int32)) (ls' := [some (vR 23 r0), some (vR 6 r1), some (vI (x2 + (1 : Int32))), some (vR 8 q0), none, none, none]) rfl (by decide) rfl rfl rfl ?_
    refine jw_goto (pc' := 14) rfl rfl ?_
    refine jw_gen (ls' := [some (vR 23 r0), some (vR 6 r1), some (vI (x2 + (1 : Int32))), none, none, none, none]) (st' := []) (And.intro (Or.inl rfl) (And.intro (Or.inl rfl) (And.intro (Or.inl rfl) (trivial)))) (trivial) ?_
    exact hK14 _ _ _ _ w
  · replace w := w.2 c_5
    refine jw_aload_n (pc' := 41) rfl rfl ?_
    obtain ⟨g_6, w⟩ := w
    refine jw_getR (pc' := 44) (F := 108) (t' := 98) rfl rfl rfl rfl rfl g_6 ?_
    refine jw_aload_n (pc' := 45) rfl rfl ?_
    obtain ⟨g_7, w⟩ := w
    refine jw_cR (st := []) (sa := [vR 98 (jfr h_2 108 r0), vR 8 q0]) okX14_copy rfl rfl rfl rfl rfl rfl (jstp_virtual (sa := [vR 8 q0]) (st := []) (k := 0) rfl rfl sX14_copy okX14_copy g_7 (one98.k g_7) rfl rfl) w (fun v_10 h_8 _ _ _ w => ?_)
    exact jw_areturn rfl rfl rfl rfl rfl w
def W_X29_at_14 (D : JD) (d : Nat) (Q : JO → JH → Prop) (K14 : Nat → Nat → Int32 → JH → Prop) (r0 : Nat) (r1 : Nat) (x2 : Int32) (h : JH) : Prop :=
  r0 ≠ 0 ∧ (((jfi h 112 r0) ≤ x2 → (jfr h 108 r0) ≠ 0 ∧ (cX14_none D d (jfr h 108 r0) h (pR D h 8 (fun v_6 h_4 => Q (.inl (some (vR 8 v_6))) h_4) (jth Q)))) ∧ (¬ (jfi h 112 r0) ≤ x2 → (jfr h 111 r0) ≠ 0 ∧ jin x2 (jln h (jfr h 111 r0)) ∧ ((jar h (jfr h 111 r0) (ixn x2)) ≠ 0 ∧ (v55_at D d (jar h (jfr h 111 r0) (ixn x2)) r1 h (pR D h 8 (fun v_12 h_10 => W_X29_at_32 D d Q K14 r0 r1 x2 v_12 h_10) (jth Q))))))
theorem w_X29_at_14 {D : JD} {d : Nat} {Q : JO → JH → Prop} {K14 : Nat → Nat → Int32 → JH → Prop} {r0 : Nat} {r1 : Nat} {x2 : Int32} {h : JH} (hK14 : ∀ (r0 : Nat) (r1 : Nat) (x2 : Int32) (h : JH), K14 r0 r1 x2 h → JW D (d + 1) mX29_at 14 [some (vR 23 r0), some (vR 6 r1), some (vI x2), none, none, none, none] [] h Q) (w : W_X29_at_14 D d Q K14 r0 r1 x2 h) : JW D (d + 1) mX29_at 14 [some (vR 23 r0), some (vR 6 r1), some (vI x2), none, none, none, none] [] h Q := by
  unfold W_X29_at_14 at w
  refine jw_iload_n (pc' := 15) rfl rfl ?_
  refine jw_aload_n (pc' := 16) rfl rfl ?_
  obtain ⟨g_1, w⟩ := w
  refine jw_getI (pc' := 19) (F := 112) rfl rfl rfl rfl g_1 ?_
  refine jw_icmp_ge (tgt := 55) (pc' := 22) rfl rfl (fun c_2 => ?_) (fun c_2 => ?_)
  · replace w := w.1 c_2
    refine jw_aload_n (pc' := 56) rfl rfl ?_
    refine jw_getR (pc' := 59) (F := 108) (t' := 98) rfl rfl rfl rfl rfl g_1 ?_
    obtain ⟨g_3, w⟩ := w
    refine jw_cR (st := []) (sa := [vR 98 (jfr h 108 r0)]) okX14_none rfl rfl rfl rfl rfl rfl (jstp_virtual (sa := []) (st := []) (k := 0) rfl rfl sX14_none okX14_none g_3 (one98.k g_3) rfl rfl) w (fun v_6 h_4 _ _ _ w => ?_)
    exact jw_areturn rfl rfl rfl rfl rfl w
  · replace w := w.2 c_2
    refine jw_aload_n (pc' := 23) rfl rfl ?_
    refine jw_getR (pc' := 26) (F := 111) (t' := 77) rfl rfl rfl rfl rfl g_1 ?_
    refine jw_iload_n (pc' := 27) rfl rfl ?_
    obtain ⟨g_7, w⟩ := w
    obtain ⟨g_8, w⟩ := w
    refine jw_aald (pc' := 28) (t' := 55) rfl rfl rfl rfl g_7 g_8.ix g_8.2 ?_
    refine jw_aload_n (pc' := 29) rfl rfl ?_
    obtain ⟨g_9, w⟩ := w
    refine JW.inv (fun hI => JW.oks (fun ho => ?_))
    have hkd := und55.k hI (ho (vR 55 (jar h (jfr h 111 r0) (ixn x2))) (by simp)) g_9
    simp only [List.mem_cons, List.not_mem_nil, or_false] at hkd
    clear ho hI
    rcases hkd with e_13 | e_13 | e_13 | e_13 | e_13 | e_13 | e_13 | e_13 | e_13 | e_13
    · refine jw_gen (ls' := _) (st' := [vR 6 r1, vR 20 (jar h (jfr h 111 r0) (ixn x2))]) (jgl_rf _ _) (And.intro (Or.inl rfl) (And.intro (Or.inr ⟨_, _, _, rfl, rfl, Or.inr (Or.inr (by rw [e_13]; rfl))⟩) (jgs_rf _ _))) ?_
      refine jw_cR (st := []) (sa := [vR 20 (jar h (jfr h 111 r0) (ixn x2)), vR 6 r1]) okX25_at rfl rfl rfl rfl rfl rfl (jstp_up (sa := [vR 6 r1]) (st := []) rfl (lw_g (jtb_mem (c := 12) (i := 29) rfl) rfl) um28 okX25_at g_9 (fun _ _ => by rw [e_13]; exact ⟨rfl, rfl⟩) rfl rfl) (w.1 e_13) (fun v_12 h_10 _ _ _ w => ?_)
      exact w_X29_at_32 hK14 w
    · refine jw_gen (ls' := _) (st' := [vR 6 r1, vR 21 (jar h (jfr h 111 r0) (ixn x2))]) (jgl_rf _ _) (And.intro (Or.inl rfl) (And.intro (Or.inr ⟨_, _, _, rfl, rfl, Or.inr (Or.inr (by rw [e_13]; rfl))⟩) (jgs_rf _ _))) ?_
      refine jw_cR (st := []) (sa := [vR 21 (jar h (jfr h 111 r0) (ixn x2)), vR 6 r1]) okX27_at rfl rfl rfl rfl rfl rfl (jstp_up (sa := [vR 6 r1]) (st := []) rfl (lw_g (jtb_mem (c := 12) (i := 29) rfl) rfl) um29 okX27_at g_9 (fun _ _ => by rw [e_13]; exact ⟨rfl, rfl⟩) rfl rfl) (w.2.1 e_13) (fun v_12 h_10 _ _ _ w => ?_)
      exact w_X29_at_32 hK14 w
    · refine jw_gen (ls' := _) (st' := [vR 6 r1, vR 22 (jar h (jfr h 111 r0) (ixn x2))]) (jgl_rf _ _) (And.intro (Or.inl rfl) (And.intro (Or.inr ⟨_, _, _, rfl, rfl, Or.inr (Or.inr (by rw [e_13]; rfl))⟩) (jgs_rf _ _))) ?_
      refine jw_cR (st := []) (sa := [vR 22 (jar h (jfr h 111 r0) (ixn x2)), vR 6 r1]) okX28_at rfl rfl rfl rfl rfl rfl (jstp_up (sa := [vR 6 r1]) (st := []) rfl (lw_g (jtb_mem (c := 12) (i := 29) rfl) rfl) um30 okX28_at g_9 (fun _ _ => by rw [e_13]; exact ⟨rfl, rfl⟩) rfl rfl) (w.2.2.1 e_13) (fun v_12 h_10 _ _ _ w => ?_)
      exact w_X29_at_32 hK14 w
    · refine jw_gen (ls' := _) (st' := [vR 6 r1, vR 23 (jar h (jfr h 111 r0) (ixn x2))]) (jgl_rf _ _) (And.intro (Or.inl rfl) (And.intro (Or.inr ⟨_, _, _, rfl, rfl, Or.inr (Or.inr (by rw [e_13]; rfl))⟩) (jgs_rf _ _))) ?_
      refine jw_cR (st := []) (sa := [vR 23 (jar h (jfr h 111 r0) (ixn x2)), vR 6 r1]) okX29_at rfl rfl rfl rfl rfl rfl (jstp_up (sa := [vR 6 r1]) (st := []) rfl (lw_g (jtb_mem (c := 12) (i := 29) rfl) rfl) um31 okX29_at g_9 (fun _ _ => by rw [e_13]; exact ⟨rfl, rfl⟩) rfl rfl) (w.2.2.2.1 e_13) (fun v_12 h_10 _ _ _ w => ?_)
      exact w_X29_at_32 hK14 w
    · refine jw_gen (ls' := _) (st' := [vR 6 r1, vR 24 (jar h (jfr h 111 r0) (ixn x2))]) (jgl_rf _ _) (And.intro (Or.inl rfl) (And.intro (Or.inr ⟨_, _, _, rfl, rfl, Or.inr (Or.inr (by rw [e_13]; rfl))⟩) (jgs_rf _ _))) ?_
      refine jw_cR (st := []) (sa := [vR 24 (jar h (jfr h 111 r0) (ixn x2)), vR 6 r1]) okX30_at rfl rfl rfl rfl rfl rfl (jstp_up (sa := [vR 6 r1]) (st := []) rfl (lw_g (jtb_mem (c := 12) (i := 29) rfl) rfl) um32 okX30_at g_9 (fun _ _ => by rw [e_13]; exact ⟨rfl, rfl⟩) rfl rfl) (w.2.2.2.2.1 e_13) (fun v_12 h_10 _ _ _ w => ?_)
      exact w_X29_at_32 hK14 w
    · refine jw_gen (ls' := _) (st' := [vR 6 r1, vR 25 (jar h (jfr h 111 r0) (ixn x2))]) (jgl_rf _ _) (And.intro (Or.inl rfl) (And.intro (Or.inr ⟨_, _, _, rfl, rfl, Or.inr (Or.inr (by rw [e_13]; rfl))⟩) (jgs_rf _ _))) ?_
      refine jw_cR (st := []) (sa := [vR 25 (jar h (jfr h 111 r0) (ixn x2)), vR 6 r1]) okX31_at rfl rfl rfl rfl rfl rfl (jstp_up (sa := [vR 6 r1]) (st := []) rfl (lw_g (jtb_mem (c := 12) (i := 29) rfl) rfl) um33 okX31_at g_9 (fun _ _ => by rw [e_13]; exact ⟨rfl, rfl⟩) rfl rfl) (w.2.2.2.2.2.1 e_13) (fun v_12 h_10 _ _ _ w => ?_)
      exact w_X29_at_32 hK14 w
    · refine jw_gen (ls' := _) (st' := [vR 6 r1, vR 26 (jar h (jfr h 111 r0) (ixn x2))]) (jgl_rf _ _) (And.intro (Or.inl rfl) (And.intro (Or.inr ⟨_, _, _, rfl, rfl, Or.inr (Or.inr (by rw [e_13]; rfl))⟩) (jgs_rf _ _))) ?_
      refine jw_cR (st := []) (sa := [vR 26 (jar h (jfr h 111 r0) (ixn x2)), vR 6 r1]) okX32_at rfl rfl rfl rfl rfl rfl (jstp_up (sa := [vR 6 r1]) (st := []) rfl (lw_g (jtb_mem (c := 12) (i := 29) rfl) rfl) um34 okX32_at g_9 (fun _ _ => by rw [e_13]; exact ⟨rfl, rfl⟩) rfl rfl) (w.2.2.2.2.2.2.1 e_13) (fun v_12 h_10 _ _ _ w => ?_)
      exact w_X29_at_32 hK14 w
    · refine jw_gen (ls' := _) (st' := [vR 6 r1, vR 27 (jar h (jfr h 111 r0) (ixn x2))]) (jgl_rf _ _) (And.intro (Or.inl rfl) (And.intro (Or.inr ⟨_, _, _, rfl, rfl, Or.inr (Or.inr (by rw [e_13]; rfl))⟩) (jgs_rf _ _))) ?_
      refine jw_cR (st := []) (sa := [vR 27 (jar h (jfr h 111 r0) (ixn x2)), vR 6 r1]) okX33_at rfl rfl rfl rfl rfl rfl (jstp_up (sa := [vR 6 r1]) (st := []) rfl (lw_g (jtb_mem (c := 12) (i := 29) rfl) rfl) um35 okX33_at g_9 (fun _ _ => by rw [e_13]; exact ⟨rfl, rfl⟩) rfl rfl) (w.2.2.2.2.2.2.2.1 e_13) (fun v_12 h_10 _ _ _ w => ?_)
      exact w_X29_at_32 hK14 w
    · refine jw_gen (ls' := _) (st' := [vR 6 r1, vR 28 (jar h (jfr h 111 r0) (ixn x2))]) (jgl_rf _ _) (And.intro (Or.inl rfl) (And.intro (Or.inr ⟨_, _, _, rfl, rfl, Or.inr (Or.inr (by rw [e_13]; rfl))⟩) (jgs_rf _ _))) ?_
      refine jw_cR (st := []) (sa := [vR 28 (jar h (jfr h 111 r0) (ixn x2)), vR 6 r1]) okX34_at rfl rfl rfl rfl rfl rfl (jstp_up (sa := [vR 6 r1]) (st := []) rfl (lw_g (jtb_mem (c := 12) (i := 29) rfl) rfl) um36 okX34_at g_9 (fun _ _ => by rw [e_13]; exact ⟨rfl, rfl⟩) rfl rfl) (w.2.2.2.2.2.2.2.2.1 e_13) (fun v_12 h_10 _ _ _ w => ?_)
      exact w_X29_at_32 hK14 w
    · refine jw_gen (ls' := _) (st' := [vR 6 r1, vR 29 (jar h (jfr h 111 r0) (ixn x2))]) (jgl_rf _ _) (And.intro (Or.inl rfl) (And.intro (Or.inr ⟨_, _, _, rfl, rfl, Or.inr (Or.inr (by rw [e_13]; rfl))⟩) (jgs_rf _ _))) ?_
      refine jw_cR (st := []) (sa := [vR 29 (jar h (jfr h 111 r0) (ixn x2)), vR 6 r1]) okX35_at rfl rfl rfl rfl rfl rfl (jstp_up (sa := [vR 6 r1]) (st := []) rfl (lw_g (jtb_mem (c := 12) (i := 29) rfl) rfl) um37 okX35_at g_9 (fun _ _ => by rw [e_13]; exact ⟨rfl, rfl⟩) rfl rfl) (w.2.2.2.2.2.2.2.2.2 e_13) (fun v_12 h_10 _ _ _ w => ?_)
      exact w_X29_at_32 hK14 w
def L_X29_at_14 (D : JD) (d : Nat) (Q : JO → JH → Prop) : Nat → Nat → Nat → Int32 → JH → Prop
  | 0 => fun _ _ _ _ => False
  | n + 1 => fun r0 r1 x2 h => W_X29_at_14 D d Q (L_X29_at_14 D d Q n) r0 r1 x2 h
theorem l_X29_at_14 {D : JD} {d : Nat} {Q : JO → JH → Prop} : ∀ (n : Nat) (r0 : Nat) (r1 : Nat) (x2 : Int32) (h : JH), L_X29_at_14 D d Q n r0 r1 x2 h → JW D (d + 1) mX29_at 14 [some (vR 23 r0), some (vR 6 r1), some (vI x2), none, none, none, none] [] h Q := by
  intro n
  induction n with
  | zero => intro _ _ _ _ w; exact w.elim
  | succ n ih => intro _ _ _ h w; exact w_X29_at_14 ih w
def W_X29_at_0 (D : JD) (d : Nat) (Q : JO → JH → Prop) (r0 : Nat) (r1 : Nat) (h : JH) : Prop :=
  r0 ≠ 0 ∧ ((jfr h 116 r0) ≠ 0 ∧ (cJ5_equals D d (jfr h 116 r0) (jcs D 162) h (pI D h (fun v_5 h_3 => (v_5 = 0 → (jfr h_3 111 r0) ≠ 0 ∧ jin (0 : Int32) (jln h_3 (jfr h_3 111 r0)) ∧ ((jar h_3 (jfr h_3 111 r0) (ixn (0 : Int32))) ≠ 0 ∧ (v55_at D d (jar h_3 (jfr h_3 111 r0) (ixn (0 : Int32))) r1 h_3 (pR D h_3 8 (fun v_12 h_10 => W_X29_at_73 D d Q r0 r1 v_12 h_10) (jth Q))))) ∧ (¬ v_5 = 0 → ∃ n, L_X29_at_14 D d Q n r0 r1 (0 : Int32) h_3)) (jth Q))))
theorem w_X29_at_0 {D : JD} {d : Nat} {Q : JO → JH → Prop} {r0 : Nat} {r1 : Nat} {h : JH} (w : W_X29_at_0 D d Q r0 r1 h) : JW D (d + 1) mX29_at 0 [some (vR 23 r0), some (vR 6 r1), none, none, none, none, none] [] h Q := by
  unfold W_X29_at_0 at w
  refine jw_aload_n (pc' := 1) rfl rfl ?_
  obtain ⟨g_1, w⟩ := w
  refine jw_getR (pc' := 4) (F := 116) (t' := 64) rfl rfl rfl rfl rfl g_1 ?_
  refine jw_ldcS (pc' := 6) rfl rfl rfl rfl ?_
  obtain ⟨g_2, w⟩ := w
  refine jw_cI (st := []) (sa := [vR 64 (jfr h 116 r0), vR 51 (jcs D 162)]) okJ5_equals rfl rfl rfl rfl rfl rfl (jstp_virtual (sa := [vR 51 (jcs D 162)]) (st := []) (k := 0) rfl rfl sJ5_equals okJ5_equals g_2 (one64.k g_2) rfl rfl) w (fun v_5 h_3 _ _ w => ?_)
  refine jw_if_eq (tgt := 63) (pc' := 12) rfl rfl (fun c_6 => ?_) (fun c_6 => ?_)
  · replace w := w.1 c_6
    refine jw_aload_n (pc' := 64) rfl rfl ?_
    refine jw_getR (pc' := 67) (F := 111) (t' := 77) rfl rfl rfl rfl rfl g_1 ?_
    refine jw_iconst (pc' := 68) (x := (0 : Int32)) rfl rfl ?_
    obtain ⟨g_7, w⟩ := w
    obtain ⟨g_8, w⟩ := w
    refine jw_aald (pc' := 69) (t' := 55) rfl rfl rfl rfl g_7 g_8.ix g_8.2 ?_
    refine jw_aload_n (pc' := 70) rfl rfl ?_
    obtain ⟨g_9, w⟩ := w
    refine JW.inv (fun hI => JW.oks (fun ho => ?_))
    have hkd := und55.k hI (ho (vR 55 (jar h_3 (jfr h_3 111 r0) (ixn (0 : Int32)))) (by simp)) g_9
    simp only [List.mem_cons, List.not_mem_nil, or_false] at hkd
    clear ho hI
    rcases hkd with e_13 | e_13 | e_13 | e_13 | e_13 | e_13 | e_13 | e_13 | e_13 | e_13
    · refine jw_gen (ls' := _) (st' := [vR 6 r1, vR 20 (jar h_3 (jfr h_3 111 r0) (ixn (0 : Int32)))]) (jgl_rf _ _) (And.intro (Or.inl rfl) (And.intro (Or.inr ⟨_, _, _, rfl, rfl, Or.inr (Or.inr (by rw [e_13]; rfl))⟩) (jgs_rf _ _))) ?_
      refine jw_cR (st := []) (sa := [vR 20 (jar h_3 (jfr h_3 111 r0) (ixn (0 : Int32))), vR 6 r1]) okX25_at rfl rfl rfl rfl rfl rfl (jstp_up (sa := [vR 6 r1]) (st := []) rfl (lw_g (jtb_mem (c := 12) (i := 29) rfl) rfl) um28 okX25_at g_9 (fun _ _ => by rw [e_13]; exact ⟨rfl, rfl⟩) rfl rfl) (w.1 e_13) (fun v_12 h_10 _ _ _ w => ?_)
      exact w_X29_at_73 w
    · refine jw_gen (ls' := _) (st' := [vR 6 r1, vR 21 (jar h_3 (jfr h_3 111 r0) (ixn (0 : Int32)))]) (jgl_rf _ _) (And.intro (Or.inl rfl) (And.intro (Or.inr ⟨_, _, _, rfl, rfl, Or.inr (Or.inr (by rw [e_13]; rfl))⟩) (jgs_rf _ _))) ?_
      refine jw_cR (st := []) (sa := [vR 21 (jar h_3 (jfr h_3 111 r0) (ixn (0 : Int32))), vR 6 r1]) okX27_at rfl rfl rfl rfl rfl rfl (jstp_up (sa := [vR 6 r1]) (st := []) rfl (lw_g (jtb_mem (c := 12) (i := 29) rfl) rfl) um29 okX27_at g_9 (fun _ _ => by rw [e_13]; exact ⟨rfl, rfl⟩) rfl rfl) (w.2.1 e_13) (fun v_12 h_10 _ _ _ w => ?_)
      exact w_X29_at_73 w
    · refine jw_gen (ls' := _) (st' := [vR 6 r1, vR 22 (jar h_3 (jfr h_3 111 r0) (ixn (0 : Int32)))]) (jgl_rf _ _) (And.intro (Or.inl rfl) (And.intro (Or.inr ⟨_, _, _, rfl, rfl, Or.inr (Or.inr (by rw [e_13]; rfl))⟩) (jgs_rf _ _))) ?_
      refine jw_cR (st := []) (sa := [vR 22 (jar h_3 (jfr h_3 111 r0) (ixn (0 : Int32))), vR 6 r1]) okX28_at rfl rfl rfl rfl rfl rfl (jstp_up (sa := [vR 6 r1]) (st := []) rfl (lw_g (jtb_mem (c := 12) (i := 29) rfl) rfl) um30 okX28_at g_9 (fun _ _ => by rw [e_13]; exact ⟨rfl, rfl⟩) rfl rfl) (w.2.2.1 e_13) (fun v_12 h_10 _ _ _ w => ?_)
      exact w_X29_at_73 w
    · refine jw_gen (ls' := _) (st' := [vR 6 r1, vR 23 (jar h_3 (jfr h_3 111 r0) (ixn (0 : Int32)))]) (jgl_rf _ _) (And.intro (Or.inl rfl) (And.intro (Or.inr ⟨_, _, _, rfl, rfl, Or.inr (Or.inr (by rw [e_13]; rfl))⟩) (jgs_rf _ _))) ?_
      refine jw_cR (st := []) (sa := [vR 23 (jar h_3 (jfr h_3 111 r0) (ixn (0 : Int32))), vR 6 r1]) okX29_at rfl rfl rfl rfl rfl rfl (jstp_up (sa := [vR 6 r1]) (st := []) rfl (lw_g (jtb_mem (c := 12) (i := 29) rfl) rfl) um31 okX29_at g_9 (fun _ _ => by rw [e_13]; exact ⟨rfl, rfl⟩) rfl rfl) (w.2.2.2.1 e_13) (fun v_12 h_10 _ _ _ w => ?_)
      exact w_X29_at_73 w
    · refine jw_gen (ls' := _) (st' := [vR 6 r1, vR 24 (jar h_3 (jfr h_3 111 r0) (ixn (0 : Int32)))]) (jgl_rf _ _) (And.intro (Or.inl rfl) (And.intro (Or.inr ⟨_, _, _, rfl, rfl, Or.inr (Or.inr (by rw [e_13]; rfl))⟩) (jgs_rf _ _))) ?_
      refine jw_cR (st := []) (sa := [vR 24 (jar h_3 (jfr h_3 111 r0) (ixn (0 : Int32))), vR 6 r1]) okX30_at rfl rfl rfl rfl rfl rfl (jstp_up (sa := [vR 6 r1]) (st := []) rfl (lw_g (jtb_mem (c := 12) (i := 29) rfl) rfl) um32 okX30_at g_9 (fun _ _ => by rw [e_13]; exact ⟨rfl, rfl⟩) rfl rfl) (w.2.2.2.2.1 e_13) (fun v_12 h_10 _ _ _ w => ?_)
      exact w_X29_at_73 w
    · refine jw_gen (ls' := _) (st' := [vR 6 r1, vR 25 (jar h_3 (jfr h_3 111 r0) (ixn (0 : Int32)))]) (jgl_rf _ _) (And.intro (Or.inl rfl) (And.intro (Or.inr ⟨_, _, _, rfl, rfl, Or.inr (Or.inr (by rw [e_13]; rfl))⟩) (jgs_rf _ _))) ?_
      refine jw_cR (st := []) (sa := [vR 25 (jar h_3 (jfr h_3 111 r0) (ixn (0 : Int32))), vR 6 r1]) okX31_at rfl rfl rfl rfl rfl rfl (jstp_up (sa := [vR 6 r1]) (st := []) rfl (lw_g (jtb_mem (c := 12) (i := 29) rfl) rfl) um33 okX31_at g_9 (fun _ _ => by rw [e_13]; exact ⟨rfl, rfl⟩) rfl rfl) (w.2.2.2.2.2.1 e_13) (fun v_12 h_10 _ _ _ w => ?_)
      exact w_X29_at_73 w
    · refine jw_gen (ls' := _) (st' := [vR 6 r1, vR 26 (jar h_3 (jfr h_3 111 r0) (ixn (0 : Int32)))]) (jgl_rf _ _) (And.intro (Or.inl rfl) (And.intro (Or.inr ⟨_, _, _, rfl, rfl, Or.inr (Or.inr (by rw [e_13]; rfl))⟩) (jgs_rf _ _))) ?_
      refine jw_cR (st := []) (sa := [vR 26 (jar h_3 (jfr h_3 111 r0) (ixn (0 : Int32))), vR 6 r1]) okX32_at rfl rfl rfl rfl rfl rfl (jstp_up (sa := [vR 6 r1]) (st := []) rfl (lw_g (jtb_mem (c := 12) (i := 29) rfl) rfl) um34 okX32_at g_9 (fun _ _ => by rw [e_13]; exact ⟨rfl, rfl⟩) rfl rfl) (w.2.2.2.2.2.2.1 e_13) (fun v_12 h_10 _ _ _ w => ?_)
      exact w_X29_at_73 w
    · refine jw_gen (ls' := _) (st' := [vR 6 r1, vR 27 (jar h_3 (jfr h_3 111 r0) (ixn (0 : Int32)))]) (jgl_rf _ _) (And.intro (Or.inl rfl) (And.intro (Or.inr ⟨_, _, _, rfl, rfl, Or.inr (Or.inr (by rw [e_13]; rfl))⟩) (jgs_rf _ _))) ?_
      refine jw_cR (st := []) (sa := [vR 27 (jar h_3 (jfr h_3 111 r0) (ixn (0 : Int32))), vR 6 r1]) okX33_at rfl rfl rfl rfl rfl rfl (jstp_up (sa := [vR 6 r1]) (st := []) rfl (lw_g (jtb_mem (c := 12) (i := 29) rfl) rfl) um35 okX33_at g_9 (fun _ _ => by rw [e_13]; exact ⟨rfl, rfl⟩) rfl rfl) (w.2.2.2.2.2.2.2.1 e_13) (fun v_12 h_10 _ _ _ w => ?_)
      exact w_X29_at_73 w
    · refine jw_gen (ls' := _) (st' := [vR 6 r1, vR 28 (jar h_3 (jfr h_3 111 r0) (ixn (0 : Int32)))]) (jgl_rf _ _) (And.intro (Or.inl rfl) (And.intro (Or.inr ⟨_, _, _, rfl, rfl, Or.inr (Or.inr (by rw [e_13]; rfl))⟩) (jgs_rf _ _))) ?_
      refine jw_cR (st := []) (sa := [vR 28 (jar h_3 (jfr h_3 111 r0) (ixn (0 : Int32))), vR 6 r1]) okX34_at rfl rfl rfl rfl rfl rfl (jstp_up (sa := [vR 6 r1]) (st := []) rfl (lw_g (jtb_mem (c := 12) (i := 29) rfl) rfl) um36 okX34_at g_9 (fun _ _ => by rw [e_13]; exact ⟨rfl, rfl⟩) rfl rfl) (w.2.2.2.2.2.2.2.2.1 e_13) (fun v_12 h_10 _ _ _ w => ?_)
      exact w_X29_at_73 w
    · refine jw_gen (ls' := _) (st' := [vR 6 r1, vR 29 (jar h_3 (jfr h_3 111 r0) (ixn (0 : Int32)))]) (jgl_rf _ _) (And.intro (Or.inl rfl) (And.intro (Or.inr ⟨_, _, _, rfl, rfl, Or.inr (Or.inr (by rw [e_13]; rfl))⟩) (jgs_rf _ _))) ?_
      refine jw_cR (st := []) (sa := [vR 29 (jar h_3 (jfr h_3 111 r0) (ixn (0 : Int32))), vR 6 r1]) okX35_at rfl rfl rfl rfl rfl rfl (jstp_up (sa := [vR 6 r1]) (st := []) rfl (lw_g (jtb_mem (c := 12) (i := 29) rfl) rfl) um37 okX35_at g_9 (fun _ _ => by rw [e_13]; exact ⟨rfl, rfl⟩) rfl rfl) (w.2.2.2.2.2.2.2.2.2 e_13) (fun v_12 h_10 _ _ _ w => ?_)
      exact w_X29_at_73 w
  · replace w := w.2 c_6
    refine jw_iconst (pc' := 13) (x := (0 : Int32)) rfl rfl ?_
    refine jw_istore_n (pc' := 14) (ls' := [some (vR 23 r0), some (vR 6 r1), some (vI (0 : Int32)), none, none, none, none]) rfl (by decide) rfl ?_
    obtain ⟨n, w⟩ := w
    exact l_X29_at_14 n _ _ _ _ w
def T_X29_at (D : JD) (d : Nat) (Q : JO → JH → Prop) (r0 : Nat) (r1 : Nat) (h : JH) : Prop := W_X29_at_0 D d Q r0 r1 h
theorem t_X29_at {D : JD} {d : Nat} {Q : JO → JH → Prop} {r0 : Nat} {r1 : Nat} {h : JH} (w : T_X29_at D d Q r0 r1 h) : cX29_at D (d + 1) r0 r1 h Q := by
  unfold T_X29_at at w
  unfold cX29_at
  exact w_X29_at_0 w
def W_X29_piece_0 (D : JD) (d : Nat) (Q : JO → JH → Prop) (r0 : Nat) (r1 : Nat) (y2 : Int64) (y4 : Int64) (h : JH) : Prop :=
  (0 ≤ (lg_cmp y4 (0 : Int64)) → cJ15_max_2 D d y2 (1 : Int64) h (pL D h (fun v_3 h_2 => r1 ≠ 0 ∧ (cX14_size D d r1 h_2 (pI D h_2 (fun v_7 h_5 => cJ15_min_2 D d (y2 + y4) ((Int32.toInt64 v_7) + (1 : Int64)) h_5 (pL D h_5 (fun v_9 h_8 => (0 < (lg_cmp v_9 v_3) → r0 ≠ 0 ∧ (cX14_bytes D d r1 h_8 (pR D h_8 65 (fun v_14 h_12 => (jfr h_8 108 r0) ≠ 0 ∧ (cX14_text D d (jfr h_8 108 r0) v_14 ((Int64.toInt32 v_3) - (1 : Int32)) (Int64.toInt32 (v_9 - v_3)) h_12 (pR D h_12 8 (fun v_18 h_16 => Q (.inl (some (vR 8 v_18))) h_16) (jth Q)))) (jth Q)))) ∧ (¬ 0 < (lg_cmp v_9 v_3) → r0 ≠ 0 ∧ (cX14_bytes D d r1 h_8 (pR D h_8 65 (fun v_22 h_20 => (jfr h_8 108 r0) ≠ 0 ∧ (cX14_text D d (jfr h_8 108 r0) v_22 (0 : Int32) (0 : Int32) h_20 (pR D h_20 8 (fun v_26 h_24 => Q (.inl (some (vR 8 v_26))) h_24) (jth Q)))) (jth Q))))) (jth Q))) (jth Q)))) (jth Q))) ∧ (¬ 0 ≤ (lg_cmp y4 (0 : Int64)) → cX1_fault D d (jcs D 194) h (pR D h 9 (fun v_29 h_27 => v_29 ≠ 0 ∧ (Q (.inr v_29) h_27)) (jth Q)))
theorem w_X29_piece_0 {D : JD} {d : Nat} {Q : JO → JH → Prop} {r0 : Nat} {r1 : Nat} {y2 : Int64} {y4 : Int64} {h : JH} (w : W_X29_piece_0 D d Q r0 r1 y2 y4 h) : JW D (d + 1) mX29_piece 0 [some (vR 23 r0), some (vR 8 r1), some (vL y2), none, some (vL y4), none, none, none, none, none] [] h Q := by
  unfold W_X29_piece_0 at w
  refine jw_lload (pc' := 2) rfl rfl ?_
  refine jw_lconst (pc' := 3) (x := (0 : Int64)) rfl rfl ?_
  refine jw_lcmp (pc' := 4) rfl ?_
  refine jw_if_ge (tgt := 13) (pc' := 7) rfl rfl (fun c_1 => ?_) (fun c_1 => ?_)
  · replace w := w.1 c_1
    refine jw_lload_n (pc' := 14) rfl rfl ?_
    refine jw_lconst (pc' := 15) (x := (1 : Int64)) rfl rfl ?_
    refine jw_cL (st := []) (sa := [vL y2, vL (1 : Int64)]) okJ15_max_2 rfl rfl rfl rfl rfl rfl (jstp_static (sa := [vL y2, vL (1 : Int64)]) (st := []) rfl rfl sJ15_max_2 okJ15_max_2 rfl rfl) w (fun v_3 h_2 _ _ w => ?_)
    refine jw_lstore (pc' := 20) (ls' := [some (vR 23 r0), some (vR 8 r1), some (vL y2), none, some (vL y4), none, some (vL v_3), none, none, none]) rfl (by decide) rfl ?_
    refine jw_lload_n (pc' := 21) rfl rfl ?_
    refine jw_lload (pc' := 23) rfl rfl ?_
    refine jw_ladd (pc' := 24) rfl ?_
    refine jw_aload_n (pc' := 25) rfl rfl ?_
    obtain ⟨g_4, w⟩ := w
    refine jw_cI (st := [vL (y2 + y4)]) (sa := [vR 8 r1]) okX14_size rfl rfl rfl rfl rfl rfl (jstp_virtual (sa := []) (st := [vL (y2 + y4)]) (k := 0) rfl rfl sX14_size okX14_size g_4 (one8.k g_4) rfl rfl) w (fun v_7 h_5 _ _ w => ?_)
    refine jw_i2l (pc' := 29) rfl ?_
    refine jw_lconst (pc' := 30) (x := (1 : Int64)) rfl rfl ?_
    refine jw_ladd (pc' := 31) rfl ?_
    refine jw_cL (st := []) (sa := [vL (y2 + y4), vL ((Int32.toInt64 v_7) + (1 : Int64))]) okJ15_min_2 rfl rfl rfl rfl rfl rfl (jstp_static (sa := [vL (y2 + y4), vL ((Int32.toInt64 v_7) + (1 : Int64))]) (st := []) rfl rfl sJ15_min_2 okJ15_min_2 rfl rfl) w (fun v_9 h_8 _ _ w => ?_)
    refine jw_lstore (pc' := 36) (ls' := [some (vR 23 r0), some (vR 8 r1), some (vL y2), none, some (vL y4), none, some (vL v_3), none, some (vL v_9), none]) rfl (by decide) rfl ?_
    refine jw_lload (pc' := 38) rfl rfl ?_
    refine jw_lload (pc' := 40) rfl rfl ?_
    refine jw_lcmp (pc' := 41) rfl ?_
    refine jw_if_gt (tgt := 58) (pc' := 44) rfl rfl (fun c_10 => ?_) (fun c_10 => ?_)
    · replace w := w.1 c_10
      refine jw_aload_n (pc' := 59) rfl rfl ?_
      obtain ⟨g_11, w⟩ := w
      refine jw_getR (pc' := 62) (F := 108) (t' := 98) rfl rfl rfl rfl rfl g_11 ?_
      refine jw_aload_n (pc' := 63) rfl rfl ?_
      refine jw_cR (st := [vR 98 (jfr h_8 108 r0)]) (sa := [vR 8 r1]) okX14_bytes rfl rfl rfl rfl rfl rfl (jstp_virtual (sa := []) (st := [vR 98 (jfr h_8 108 r0)]) (k := 0) rfl rfl sX14_bytes okX14_bytes g_4 (one8.k g_4) rfl rfl) w (fun v_14 h_12 _ _ _ w => ?_)
      refine jw_lload (pc' := 68) rfl rfl ?_
      refine jw_l2i (pc' := 69) rfl ?_
      refine jw_iconst (pc' := 70) (x := (1 : Int32)) rfl rfl ?_
      refine jw_isub (pc' := 71) rfl ?_
      refine jw_lload (pc' := 73) rfl rfl ?_
      refine jw_lload (pc' := 75) rfl rfl ?_
      refine jw_lsub (pc' := 76) rfl ?_
      refine jw_l2i (pc' := 77) rfl ?_
      obtain ⟨g_15, w⟩ := w
      refine jw_cR (st := []) (sa := [vR 98 (jfr h_8 108 r0), vR 65 v_14, vI ((Int64.toInt32 v_3) - (1 : Int32)), vI (Int64.toInt32 (v_9 - v_3))]) okX14_text rfl rfl rfl rfl rfl rfl (jstp_virtual (sa := [vR 65 v_14, vI ((Int64.toInt32 v_3) - (1 : Int32)), vI (Int64.toInt32 (v_9 - v_3))]) (st := []) (k := 0) rfl rfl sX14_text okX14_text g_15 (one98.k g_15) rfl rfl) w (fun v_18 h_16 _ _ _ w => ?_)
      exact jw_areturn rfl rfl rfl rfl rfl w
    · replace w := w.2 c_10
      refine jw_aload_n (pc' := 45) rfl rfl ?_
      obtain ⟨g_19, w⟩ := w
      refine jw_getR (pc' := 48) (F := 108) (t' := 98) rfl rfl rfl rfl rfl g_19 ?_
      refine jw_aload_n (pc' := 49) rfl rfl ?_
      refine jw_cR (st := [vR 98 (jfr h_8 108 r0)]) (sa := [vR 8 r1]) okX14_bytes rfl rfl rfl rfl rfl rfl (jstp_virtual (sa := []) (st := [vR 98 (jfr h_8 108 r0)]) (k := 0) rfl rfl sX14_bytes okX14_bytes g_4 (one8.k g_4) rfl rfl) w (fun v_22 h_20 _ _ _ w => ?_)
      refine jw_iconst (pc' := 53) (x := (0 : Int32)) rfl rfl ?_
      refine jw_iconst (pc' := 54) (x := (0 : Int32)) rfl rfl ?_
      obtain ⟨g_23, w⟩ := w
      refine jw_cR (st := []) (sa := [vR 98 (jfr h_8 108 r0), vR 65 v_22, vI (0 : Int32), vI (0 : Int32)]) okX14_text rfl rfl rfl rfl rfl rfl (jstp_virtual (sa := [vR 65 v_22, vI (0 : Int32), vI (0 : Int32)]) (st := []) (k := 0) rfl rfl sX14_text okX14_text g_23 (one98.k g_23) rfl rfl) w (fun v_26 h_24 _ _ _ w => ?_)
      exact jw_areturn rfl rfl rfl rfl rfl w
  · replace w := w.2 c_1
    refine jw_ldcS (pc' := 9) rfl rfl rfl rfl ?_
    refine jw_cR (st := []) (sa := [vR 51 (jcs D 194)]) okX1_fault rfl rfl rfl rfl rfl rfl (jstp_static (sa := [vR 51 (jcs D 194)]) (st := []) rfl rfl sX1_fault okX1_fault rfl rfl) w (fun v_29 h_27 _ _ _ w => ?_)
    obtain ⟨g_30, w⟩ := w
    exact jw_athrow rfl rfl g_30 w
def T_X29_piece (D : JD) (d : Nat) (Q : JO → JH → Prop) (r0 : Nat) (r1 : Nat) (y2 : Int64) (y4 : Int64) (h : JH) : Prop := W_X29_piece_0 D d Q r0 r1 y2 y4 h
theorem t_X29_piece {D : JD} {d : Nat} {Q : JO → JH → Prop} {r0 : Nat} {r1 : Nat} {y2 : Int64} {y4 : Int64} {h : JH} (w : T_X29_piece D d Q r0 r1 y2 y4 h) : cX29_piece D (d + 1) r0 r1 y2 y4 h Q := by
  unfold T_X29_piece at w
  unfold cX29_piece
  exact w_X29_piece_0 w
def W_X29_cased_99 (D : JD) (d : Nat) (Q : JO → JH → Prop) (K20 : Nat → Int32 → Nat → Int32 → JH → Prop) (r0 : Nat) (x2 : Int32) (r3 : Nat) (x4 : Int32) (h : JH) : Prop :=
  K20 r0 x2 r3 (x4 + (1 : Int32)) h
theorem w_X29_cased_99 {D : JD} {d : Nat} {Q : JO → JH → Prop} {K20 : Nat → Int32 → Nat → Int32 → JH → Prop} {r0 : Nat} {x2 : Int32} {r3 : Nat} {x4 : Int32} {h : JH} (hK20 : ∀ (r0 : Nat) (x2 : Int32) (r3 : Nat) (x4 : Int32) (h : JH), K20 r0 x2 r3 x4 h → JW D (d + 1) mX29_cased 20 [some (vR 23 r0), none, some (vI x2), some (vR 65 r3), some (vI x4)] [] h Q) (w : W_X29_cased_99 D d Q K20 r0 x2 r3 x4 h) : JW D (d + 1) mX29_cased 99 [some (vR 23 r0), none, some (vI x2), some (vR 65 r3), some (vI x4)] [] h Q := by
  unfold W_X29_cased_99 at w
  refine jw_iinc (pc' := 102) (y := x4 + (1 : Int32)) (ls' := [some (vR 23 r0), none, some (vI x2), some (vR 65 r3), some (vI (x4 + (1 : Int32)))]) rfl (by decide) rfl rfl rfl ?_
  refine jw_goto (pc' := 20) rfl rfl ?_
  exact hK20 _ _ _ _ _ w
def W_X29_cased_67 (D : JD) (d : Nat) (Q : JO → JH → Prop) (K20 : Nat → Int32 → Nat → Int32 → JH → Prop) (r0 : Nat) (x2 : Int32) (r3 : Nat) (x4 : Int32) (h : JH) : Prop :=
  (¬ x2 = 0 → W_X29_cased_99 D d Q K20 r0 x2 r3 x4 h) ∧ (x2 = 0 → r3 ≠ 0 ∧ jin x4 (jln h r3) ∧ (((jai h r3 (ixn x4)) < (65 : Int32) → W_X29_cased_99 D d Q K20 r0 x2 r3 x4 h) ∧ (¬ (jai h r3 (ixn x4)) < (65 : Int32) → jin x4 (jln h r3) ∧ (((90 : Int32) < (jai h r3 (ixn x4)) → W_X29_cased_99 D d Q K20 r0 x2 r3 x4 h) ∧ (¬ (90 : Int32) < (jai h r3 (ixn x4)) → jin x4 (jln h r3) ∧ (jin x4 (jln h r3) ∧ ∀ h_9 : JH, h_9 = wai h r3 (ixn x4) ((Int32.toInt8 ((Int32.toInt8 ((jai h r3 (ixn x4)) + (32 : Int32))).toInt32)).toInt32) → (W_X29_cased_99 D d Q K20 r0 x2 r3 x4 h_9)))))))
theorem w_X29_cased_67 {D : JD} {d : Nat} {Q : JO → JH → Prop} {K20 : Nat → Int32 → Nat → Int32 → JH → Prop} {r0 : Nat} {x2 : Int32} {r3 : Nat} {x4 : Int32} {h : JH} (hK20 : ∀ (r0 : Nat) (x2 : Int32) (r3 : Nat) (x4 : Int32) (h : JH), K20 r0 x2 r3 x4 h → JW D (d + 1) mX29_cased 20 [some (vR 23 r0), none, some (vI x2), some (vR 65 r3), some (vI x4)] [] h Q) (w : W_X29_cased_67 D d Q K20 r0 x2 r3 x4 h) : JW D (d + 1) mX29_cased 67 [some (vR 23 r0), none, some (vI x2), some (vR 65 r3), some (vI x4)] [] h Q := by
  unfold W_X29_cased_67 at w
  refine jw_iload_n (pc' := 68) rfl rfl ?_
  refine jw_if_ne (tgt := 99) (pc' := 71) rfl rfl (fun c_1 => ?_) (fun c_1 => ?_)
  · replace w := w.1 c_1
    exact w_X29_cased_99 hK20 w
  · replace w := w.2 c_1
    refine jw_aload_n (pc' := 72) rfl rfl ?_
    refine jw_iload (pc' := 74) rfl rfl ?_
    obtain ⟨g_2, w⟩ := w
    obtain ⟨g_3, w⟩ := w
    refine jw_bald (pc' := 75) rfl rfl rfl rfl g_2 g_3.ix g_3.2 ?_
    refine jw_bipush (pc' := 77) (x := (65 : Int32)) rfl rfl ?_
    refine jw_icmp_lt (tgt := 99) (pc' := 80) rfl rfl (fun c_4 => ?_) (fun c_4 => ?_)
    · replace w := w.1 c_4
      exact w_X29_cased_99 hK20 w
    · replace w := w.2 c_4
      refine jw_aload_n (pc' := 81) rfl rfl ?_
      refine jw_iload (pc' := 83) rfl rfl ?_
      obtain ⟨g_5, w⟩ := w
      refine jw_bald (pc' := 84) rfl rfl rfl rfl g_2 g_5.ix g_5.2 ?_
      refine jw_bipush (pc' := 86) (x := (90 : Int32)) rfl rfl ?_
      refine jw_icmp_gt (tgt := 99) (pc' := 89) rfl rfl (fun c_6 => ?_) (fun c_6 => ?_)
      · replace w := w.1 c_6
        exact w_X29_cased_99 hK20 w
      · replace w := w.2 c_6
        refine jw_aload_n (pc' := 90) rfl rfl ?_
        refine jw_iload (pc' := 92) rfl rfl ?_
        refine jw_dup2 (pc' := 93) rfl rfl rfl ?_
        obtain ⟨g_7, w⟩ := w
        refine jw_bald (pc' := 94) rfl rfl rfl rfl g_2 g_7.ix g_7.2 ?_
        refine jw_bipush (pc' := 96) (x := (32 : Int32)) rfl rfl ?_
        refine jw_iadd (pc' := 97) rfl ?_
        refine jw_i2b (pc' := 98) rfl ?_
        obtain ⟨g_8, w⟩ := w
        refine jw_bast' (pc' := 99) rfl rfl rfl rfl rfl g_2 g_8 (fun h_9 e_10 => ?_)
        replace w := w h_9 e_10
        exact w_X29_cased_99 hK20 w
def W_X29_cased_20 (D : JD) (d : Nat) (Q : JO → JH → Prop) (K20 : Nat → Int32 → Nat → Int32 → JH → Prop) (r0 : Nat) (x2 : Int32) (r3 : Nat) (x4 : Int32) (h : JH) : Prop :=
  r0 ≠ 0 ∧ ((jfr h 108 r0) ≠ 0 ∧ (cX14_size D d (jfr h 108 r0) h (pI D h (fun v_5 h_3 => (v_5 ≤ x4 → Q (.inl (some (vR 8 (jfr h_3 108 r0)))) h_3) ∧ (¬ v_5 ≤ x4 → (x2 = 0 → W_X29_cased_67 D d Q K20 r0 x2 r3 x4 h_3) ∧ (¬ x2 = 0 → r3 ≠ 0 ∧ jin x4 (jln h_3 r3) ∧ (((jai h_3 r3 (ixn x4)) < (97 : Int32) → W_X29_cased_67 D d Q K20 r0 x2 r3 x4 h_3) ∧ (¬ (jai h_3 r3 (ixn x4)) < (97 : Int32) → jin x4 (jln h_3 r3) ∧ (((122 : Int32) < (jai h_3 r3 (ixn x4)) → W_X29_cased_67 D d Q K20 r0 x2 r3 x4 h_3) ∧ (¬ (122 : Int32) < (jai h_3 r3 (ixn x4)) → jin x4 (jln h_3 r3) ∧ (jin x4 (jln h_3 r3) ∧ ∀ h_15 : JH, h_15 = wai h_3 r3 (ixn x4) ((Int32.toInt8 ((Int32.toInt8 ((jai h_3 r3 (ixn x4)) - (32 : Int32))).toInt32)).toInt32) → (W_X29_cased_99 D d Q K20 r0 x2 r3 x4 h_15))))))))) (jth Q))))
theorem w_X29_cased_20 {D : JD} {d : Nat} {Q : JO → JH → Prop} {K20 : Nat → Int32 → Nat → Int32 → JH → Prop} {r0 : Nat} {x2 : Int32} {r3 : Nat} {x4 : Int32} {h : JH} (hK20 : ∀ (r0 : Nat) (x2 : Int32) (r3 : Nat) (x4 : Int32) (h : JH), K20 r0 x2 r3 x4 h → JW D (d + 1) mX29_cased 20 [some (vR 23 r0), none, some (vI x2), some (vR 65 r3), some (vI x4)] [] h Q) (w : W_X29_cased_20 D d Q K20 r0 x2 r3 x4 h) : JW D (d + 1) mX29_cased 20 [some (vR 23 r0), none, some (vI x2), some (vR 65 r3), some (vI x4)] [] h Q := by
  unfold W_X29_cased_20 at w
  refine jw_iload (pc' := 22) rfl rfl ?_
  refine jw_aload_n (pc' := 23) rfl rfl ?_
  obtain ⟨g_1, w⟩ := w
  refine jw_getR (pc' := 26) (F := 108) (t' := 98) rfl rfl rfl rfl rfl g_1 ?_
  obtain ⟨g_2, w⟩ := w
  refine jw_cI (st := [vI x4]) (sa := [vR 98 (jfr h 108 r0)]) okX14_size rfl rfl rfl rfl rfl rfl (jstp_virtual (sa := []) (st := [vI x4]) (k := 0) rfl rfl sX14_size okX14_size g_2 (one98.k g_2) rfl rfl) w (fun v_5 h_3 _ _ w => ?_)
  refine jw_icmp_ge (tgt := 105) (pc' := 32) rfl rfl (fun c_6 => ?_) (fun c_6 => ?_)
  · replace w := w.1 c_6
    refine jw_aload_n (pc' := 106) rfl rfl ?_
    refine jw_getR (pc' := 109) (F := 108) (t' := 98) rfl rfl rfl rfl rfl g_1 ?_
    exact jw_areturn rfl rfl rfl rfl rfl w
  · replace w := w.2 c_6
    refine jw_iload_n (pc' := 33) rfl rfl ?_
    refine jw_if_eq (tgt := 67) (pc' := 36) rfl rfl (fun c_7 => ?_) (fun c_7 => ?_)
    · replace w := w.1 c_7
      exact w_X29_cased_67 hK20 w
    · replace w := w.2 c_7
      refine jw_aload_n (pc' := 37) rfl rfl ?_
      refine jw_iload (pc' := 39) rfl rfl ?_
      obtain ⟨g_8, w⟩ := w
      obtain ⟨g_9, w⟩ := w
      refine jw_bald (pc' := 40) rfl rfl rfl rfl g_8 g_9.ix g_9.2 ?_
      refine jw_bipush (pc' := 42) (x := (97 : Int32)) rfl rfl ?_
      refine jw_icmp_lt (tgt := 67) (pc' := 45) rfl rfl (fun c_10 => ?_) (fun c_10 => ?_)
      · replace w := w.1 c_10
        exact w_X29_cased_67 hK20 w
      · replace w := w.2 c_10
        refine jw_aload_n (pc' := 46) rfl rfl ?_
        refine jw_iload (pc' := 48) rfl rfl ?_
        obtain ⟨g_11, w⟩ := w
        refine jw_bald (pc' := 49) rfl rfl rfl rfl g_8 g_11.ix g_11.2 ?_
        refine jw_bipush (pc' := 51) (x := (122 : Int32)) rfl rfl ?_
        refine jw_icmp_gt (tgt := 67) (pc' := 54) rfl rfl (fun c_12 => ?_) (fun c_12 => ?_)
        · replace w := w.1 c_12
          exact w_X29_cased_67 hK20 w
        · replace w := w.2 c_12
          refine jw_aload_n (pc' := 55) rfl rfl ?_
          refine jw_iload (pc' := 57) rfl rfl ?_
          refine jw_dup2 (pc' := 58) rfl rfl rfl ?_
          obtain ⟨g_13, w⟩ := w
          refine jw_bald (pc' := 59) rfl rfl rfl rfl g_8 g_13.ix g_13.2 ?_
          refine jw_bipush (pc' := 61) (x := (32 : Int32)) rfl rfl ?_
          refine jw_isub (pc' := 62) rfl ?_
          refine jw_i2b (pc' := 63) rfl ?_
          obtain ⟨g_14, w⟩ := w
          refine jw_bast' (pc' := 64) rfl rfl rfl rfl rfl g_8 g_14 (fun h_15 e_16 => ?_)
          replace w := w h_15 e_16
          refine jw_goto (pc' := 99) rfl rfl ?_
          exact w_X29_cased_99 hK20 w
def L_X29_cased_20 (D : JD) (d : Nat) (Q : JO → JH → Prop) : Nat → Nat → Int32 → Nat → Int32 → JH → Prop
  | 0 => fun _ _ _ _ _ => False
  | n + 1 => fun r0 x2 r3 x4 h => W_X29_cased_20 D d Q (L_X29_cased_20 D d Q n) r0 x2 r3 x4 h
theorem l_X29_cased_20 {D : JD} {d : Nat} {Q : JO → JH → Prop} : ∀ (n : Nat) (r0 : Nat) (x2 : Int32) (r3 : Nat) (x4 : Int32) (h : JH), L_X29_cased_20 D d Q n r0 x2 r3 x4 h → JW D (d + 1) mX29_cased 20 [some (vR 23 r0), none, some (vI x2), some (vR 65 r3), some (vI x4)] [] h Q := by
  intro n
  induction n with
  | zero => intro _ _ _ _ _ w; exact w.elim
  | succ n ih => intro _ _ _ _ h w; exact w_X29_cased_20 ih w
def W_X29_cased_0 (D : JD) (d : Nat) (Q : JO → JH → Prop) (r0 : Nat) (r1 : Nat) (x2 : Int32) (h : JH) : Prop :=
  r0 ≠ 0 ∧ ((jfr h 108 r0) ≠ 0 ∧ (cX14_copy D d (jfr h 108 r0) r1 h (pR D h 8 (fun v_5 h_3 => (jfr h_3 108 r0) ≠ 0 ∧ (cX14_bytes D d (jfr h_3 108 r0) h_3 (pR D h_3 65 (fun v_9 h_7 => ∃ n, L_X29_cased_20 D d Q n r0 x2 v_9 (0 : Int32) h_7) (jth Q)))) (jth Q))))
theorem w_X29_cased_0 {D : JD} {d : Nat} {Q : JO → JH → Prop} {r0 : Nat} {r1 : Nat} {x2 : Int32} {h : JH} (w : W_X29_cased_0 D d Q r0 r1 x2 h) : JW D (d + 1) mX29_cased 0 [some (vR 23 r0), some (vR 8 r1), some (vI x2), none, none] [] h Q := by
  unfold W_X29_cased_0 at w
  refine jw_aload_n (pc' := 1) rfl rfl ?_
  obtain ⟨g_1, w⟩ := w
  refine jw_getR (pc' := 4) (F := 108) (t' := 98) rfl rfl rfl rfl rfl g_1 ?_
  refine jw_aload_n (pc' := 5) rfl rfl ?_
  obtain ⟨g_2, w⟩ := w
  refine jw_cR (st := []) (sa := [vR 98 (jfr h 108 r0), vR 8 r1]) okX14_copy rfl rfl rfl rfl rfl rfl (jstp_virtual (sa := [vR 8 r1]) (st := []) (k := 0) rfl rfl sX14_copy okX14_copy g_2 (one98.k g_2) rfl rfl) w (fun v_5 h_3 _ _ _ w => ?_)
  refine jw_pop (pc' := 9) rfl rfl ?_
  refine jw_aload_n (pc' := 10) rfl rfl ?_
  refine jw_getR (pc' := 13) (F := 108) (t' := 98) rfl rfl rfl rfl rfl g_1 ?_
  obtain ⟨g_6, w⟩ := w
  refine jw_cR (st := []) (sa := [vR 98 (jfr h_3 108 r0)]) okX14_bytes rfl rfl rfl rfl rfl rfl (jstp_virtual (sa := []) (st := []) (k := 0) rfl rfl sX14_bytes okX14_bytes g_6 (one98.k g_6) rfl rfl) w (fun v_9 h_7 _ _ _ w => ?_)
  refine jw_astore_n (pc' := 17) (ls' := [some (vR 23 r0), some (vR 8 r1), some (vI x2), some (vR 65 v_9), none]) rfl (by decide) rfl ?_
  refine jw_iconst (pc' := 18) (x := (0 : Int32)) rfl rfl ?_
  refine jw_istore (pc' := 20) (ls' := [some (vR 23 r0), some (vR 8 r1), some (vI x2), some (vR 65 v_9), some (vI (0 : Int32))]) rfl (by decide) rfl ?_
  refine jw_gen (ls' := [some (vR 23 r0), none, some (vI x2), some (vR 65 v_9), some (vI (0 : Int32))]) (st' := []) (And.intro (Or.inl rfl) (And.intro (Or.inl rfl) (And.intro (Or.inl rfl) (And.intro (Or.inl rfl) (trivial))))) (trivial) ?_
  obtain ⟨n, w⟩ := w
  exact l_X29_cased_20 n _ _ _ _ _ w
def T_X29_cased (D : JD) (d : Nat) (Q : JO → JH → Prop) (r0 : Nat) (r1 : Nat) (x2 : Int32) (h : JH) : Prop := W_X29_cased_0 D d Q r0 r1 x2 h
theorem t_X29_cased {D : JD} {d : Nat} {Q : JO → JH → Prop} {r0 : Nat} {r1 : Nat} {x2 : Int32} {h : JH} (w : T_X29_cased D d Q r0 r1 x2 h) : cX29_cased D (d + 1) r0 r1 x2 h Q := by
  unfold T_X29_cased at w
  unfold cX29_cased
  exact w_X29_cased_0 w
def W_X3_init_0 (D : JD) (d : Nat) (Q : JO → JH → Prop) (r0 : Nat) (h : JH) : Prop :=
  r0 ≠ 0 ∧ (∀ (r_2 : Nat) (h_3 : JH), r_2 = jsz h + 1 → h_3 = nwo h 114 2 → (cX4_init D d r_2 h_3 (pV D h_3 (fun h_6 => ∀ h_9 : JH, h_9 = wfr h_6 20 r0 r_2 → (∀ (r_11 : Nat) (h_12 : JH), r_11 = jsz h_9 + 1 → h_12 = nwo h_9 115 2 → (cX4_init D d r_11 h_12 (pV D h_12 (fun h_15 => ∀ h_18 : JH, h_18 = wfr h_15 21 r0 r_11 → (∀ (r_20 : Nat) (h_21 : JH), r_20 = jsz h_18 + 1 → h_21 = nwa h_18 128 30000 → (∀ h_24 : JH, h_24 = wfr h_21 22 r0 r_20 → (∀ (r_26 : Nat) (h_27 : JH), r_26 = jsz h_24 + 1 → h_27 = nwo h_24 6 14 → (cX6_init D d r_26 (jfr h_27 22 r0) h_27 (pV D h_27 (fun h_30 => ∀ h_33 : JH, h_33 = wfr h_30 23 r0 r_26 → (∀ (r_35 : Nat) (h_36 : JH), r_35 = jsz h_33 + 1 → h_36 = nwa h_33 129 3 → (∀ h_39 : JH, h_39 = wfr h_36 25 r0 r_35 → (∀ (r_41 : Nat) (h_42 : JH), r_41 = jsz h_39 + 1 → h_42 = nwa h_39 130 10000 → (∀ h_45 : JH, h_45 = wfr h_42 26 r0 r_41 → (∀ (r_47 : Nat) (h_48 : JH), r_47 = jsz h_45 + 1 → h_48 = nwa h_45 131 10000 → (∀ h_51 : JH, h_51 = wfr h_48 27 r0 r_47 → (∀ (r_53 : Nat) (h_54 : JH), r_53 = jsz h_51 + 1 → h_54 = nwa h_51 132 302 → (∀ h_57 : JH, h_57 = wfr h_54 28 r0 r_53 → (∀ (r_59 : Nat) (h_60 : JH), r_59 = jsz h_57 + 1 → h_60 = nwa h_57 133 301 → (∀ h_63 : JH, h_63 = wfr h_60 29 r0 r_59 → (∀ (r_65 : Nat) (h_66 : JH), r_65 = jsz h_63 + 1 → h_66 = nwa h_63 134 300 → (∀ h_69 : JH, h_69 = wfr h_66 30 r0 r_65 → (∀ (r_71 : Nat) (h_72 : JH), r_71 = jsz h_69 + 1 → h_72 = nwa h_69 135 100 → (∀ h_75 : JH, h_75 = wfr h_72 31 r0 r_71 → (∀ (r_77 : Nat) (h_78 : JH), r_77 = jsz h_75 + 1 → h_78 = nwa h_75 136 300 → (∀ h_81 : JH, h_81 = wfr h_78 32 r0 r_77 → (∀ (r_83 : Nat) (h_84 : JH), r_83 = jsz h_81 + 1 → h_84 = nwo h_81 110 3 → (cX7_init D d r_83 h_84 (pV D h_84 (fun h_87 => ∀ h_90 : JH, h_90 = wfr h_87 34 r0 r_83 → (∀ (r_92 : Nat) (h_93 : JH), r_92 = jsz h_90 + 1 → h_93 = nwa h_90 137 0 → (∀ h_96 : JH, h_96 = wfr h_93 38 r0 r_92 → (∀ (r_98 : Nat) (h_99 : JH), r_98 = jsz h_96 + 1 → h_99 = nwa h_96 138 0 → (∀ h_102 : JH, h_102 = wfr h_99 39 r0 r_98 → (Q (.inl none) h_102)))))) (jth Q))))))))))))))))))))) (jth Q))))))) (jth Q))))) (jth Q))))
theorem w_X3_init_0 {D : JD} {d : Nat} {Q : JO → JH → Prop} {r0 : Nat} {h : JH} (w : W_X3_init_0 D d Q r0 h) : JW D (d + 1) mX3_init 0 [some (vR 3 r0)] [] h Q := by
  unfold W_X3_init_0 at w
  refine jw_aload_n (pc' := 1) rfl rfl ?_
  obtain ⟨g_1, w⟩ := w
  refine jw_obj (pc' := 4) rfl (lw_g (jtb_mem (c := 1) (i := 112) rfl) rfl) rfl g_1 ?_
  refine jw_aload_n (pc' := 5) rfl rfl ?_
  refine jw_new' (pc' := 8) (k := 114) (n := 2) rfl rfl rfl rfl rfl rfl rfl (fun r_2 h_3 e_4 e_5 => ?_)
  replace w := w r_2 h_3 e_4 e_5
  refine jw_dup (pc' := 9) rfl rfl ?_
  refine jw_cV (st := [vR 114 r_2, vR 3 r0]) (sa := [vR 114 r_2]) okX4_init rfl rfl rfl rfl rfl rfl (jstp_init (sa := []) (st := [vR 114 r_2, vR 3 r0]) rfl rfl sX4_init okX4_init (lw_g (jtb_mem (c := 1) (i := 117) rfl) rfl) (jnz e_4) rfl rfl) w (fun h_6 _ _ w => ?_)
  refine jw_putR' (pc' := 15) (F := 20) rfl rfl rfl (Or.inr rfl) (Or.inr ⟨rfl, rfl⟩) rfl rfl rfl g_1 (fun h_9 e_10 => ?_)
  replace w := w h_9 e_10
  refine jw_aload_n (pc' := 16) rfl rfl ?_
  refine jw_new' (pc' := 19) (k := 115) (n := 2) rfl rfl rfl rfl rfl rfl rfl (fun r_11 h_12 e_13 e_14 => ?_)
  replace w := w r_11 h_12 e_13 e_14
  refine jw_dup (pc' := 20) rfl rfl ?_
  refine jw_cV (st := [vR 115 r_11, vR 3 r0]) (sa := [vR 115 r_11]) okX4_init rfl rfl rfl rfl rfl rfl (jstp_init (sa := []) (st := [vR 115 r_11, vR 3 r0]) rfl rfl sX4_init okX4_init (lw_g (jtb_mem (c := 1) (i := 117) rfl) rfl) (jnz e_13) rfl rfl) w (fun h_15 _ _ w => ?_)
  refine jw_putR' (pc' := 26) (F := 21) rfl rfl rfl (Or.inr rfl) (Or.inr ⟨rfl, rfl⟩) rfl rfl rfl g_1 (fun h_18 e_19 => ?_)
  replace w := w h_18 e_19
  refine jw_aload_n (pc' := 27) rfl rfl ?_
  refine jw_sipush (pc' := 30) (x := (30000 : Int32)) rfl rfl ?_
  refine jw_newa' (pc' := 32) (n := 30000) (k := 128) rfl rfl rfl rfl rfl rfl (lw_g (jtb_mem (c := 2) (i := 11) rfl) rfl) ⟨by decide, rfl⟩ (by decide) (fun r_20 h_21 e_22 e_23 => ?_)
  replace w := w r_20 h_21 e_22 e_23
  refine jw_putR' (pc' := 35) (F := 22) rfl rfl rfl (Or.inr rfl) (Or.inr ⟨rfl, rfl⟩) rfl rfl rfl g_1 (fun h_24 e_25 => ?_)
  replace w := w h_24 e_25
  refine jw_aload_n (pc' := 36) rfl rfl ?_
  refine jw_new' (pc' := 39) (k := 6) (n := 14) rfl rfl rfl rfl rfl rfl rfl (fun r_26 h_27 e_28 e_29 => ?_)
  replace w := w r_26 h_27 e_28 e_29
  refine jw_dup (pc' := 40) rfl rfl ?_
  refine jw_aload_n (pc' := 41) rfl rfl ?_
  refine jw_getR (pc' := 44) (F := 22) (t' := 128) rfl rfl rfl rfl rfl g_1 ?_
  refine jw_cV (st := [vR 6 r_26, vR 3 r0]) (sa := [vR 6 r_26, vR 128 (jfr h_27 22 r0)]) okX6_init rfl rfl rfl rfl rfl rfl (jstp_init (sa := [vR 128 (jfr h_27 22 r0)]) (st := [vR 6 r_26, vR 3 r0]) rfl rfl sX6_init okX6_init (lw_g (jtb_mem (c := 1) (i := 171) rfl) rfl) (jnz e_28) rfl rfl) w (fun h_30 _ _ w => ?_)
  refine jw_putR' (pc' := 50) (F := 23) rfl rfl rfl (Or.inr rfl) (Or.inr ⟨rfl, rfl⟩) rfl rfl rfl g_1 (fun h_33 e_34 => ?_)
  replace w := w h_33 e_34
  refine jw_aload_n (pc' := 51) rfl rfl ?_
  refine jw_iconst (pc' := 52) (x := (3 : Int32)) rfl rfl ?_
  refine jw_newa' (pc' := 54) (n := 3) (k := 129) rfl rfl rfl rfl rfl rfl (lw_g (jtb_mem (c := 2) (i := 11) rfl) rfl) ⟨by decide, rfl⟩ (by decide) (fun r_35 h_36 e_37 e_38 => ?_)
  replace w := w r_35 h_36 e_37 e_38
  refine jw_putR' (pc' := 57) (F := 25) rfl rfl rfl (Or.inr rfl) (Or.inr ⟨rfl, rfl⟩) rfl rfl rfl g_1 (fun h_39 e_40 => ?_)
  replace w := w h_39 e_40
  refine jw_aload_n (pc' := 58) rfl rfl ?_
  refine jw_sipush (pc' := 61) (x := (10000 : Int32)) rfl rfl ?_
  refine jw_newa' (pc' := 63) (n := 10000) (k := 130) rfl rfl rfl rfl rfl rfl (lw_g (jtb_mem (c := 2) (i := 11) rfl) rfl) ⟨by decide, rfl⟩ (by decide) (fun r_41 h_42 e_43 e_44 => ?_)
  replace w := w r_41 h_42 e_43 e_44
  refine jw_putR' (pc' := 66) (F := 26) rfl rfl rfl (Or.inr rfl) (Or.inr ⟨rfl, rfl⟩) rfl rfl rfl g_1 (fun h_45 e_46 => ?_)
  replace w := w h_45 e_46
  refine jw_aload_n (pc' := 67) rfl rfl ?_
  refine jw_sipush (pc' := 70) (x := (10000 : Int32)) rfl rfl ?_
  refine jw_newa' (pc' := 72) (n := 10000) (k := 131) rfl rfl rfl rfl rfl rfl (lw_g (jtb_mem (c := 2) (i := 11) rfl) rfl) ⟨by decide, rfl⟩ (by decide) (fun r_47 h_48 e_49 e_50 => ?_)
  replace w := w r_47 h_48 e_49 e_50
  refine jw_putR' (pc' := 75) (F := 27) rfl rfl rfl (Or.inr rfl) (Or.inr ⟨rfl, rfl⟩) rfl rfl rfl g_1 (fun h_51 e_52 => ?_)
  replace w := w h_51 e_52
  refine jw_aload_n (pc' := 76) rfl rfl ?_
  refine jw_sipush (pc' := 79) (x := (302 : Int32)) rfl rfl ?_
  refine jw_newa' (pc' := 81) (n := 302) (k := 132) rfl rfl rfl rfl rfl rfl (lw_g (jtb_mem (c := 2) (i := 11) rfl) rfl) ⟨by decide, rfl⟩ (by decide) (fun r_53 h_54 e_55 e_56 => ?_)
  replace w := w r_53 h_54 e_55 e_56
  refine jw_putR' (pc' := 84) (F := 28) rfl rfl rfl (Or.inr rfl) (Or.inr ⟨rfl, rfl⟩) rfl rfl rfl g_1 (fun h_57 e_58 => ?_)
  replace w := w h_57 e_58
  refine jw_aload_n (pc' := 85) rfl rfl ?_
  refine jw_sipush (pc' := 88) (x := (301 : Int32)) rfl rfl ?_
  refine jw_anewA' (pc' := 91) (n := 301) (k := 133) rfl rfl rfl rfl rfl rfl rfl (jtb_mem (c := 1) (i := 127) rfl) ⟨by decide, rfl⟩ rfl (fun r_59 h_60 e_61 e_62 => ?_)
  replace w := w r_59 h_60 e_61 e_62
  refine jw_putR' (pc' := 94) (F := 29) rfl rfl rfl (Or.inr rfl) (Or.inr ⟨rfl, rfl⟩) rfl rfl rfl g_1 (fun h_63 e_64 => ?_)
  replace w := w h_63 e_64
  refine jw_aload_n (pc' := 95) rfl rfl ?_
  refine jw_sipush (pc' := 98) (x := (300 : Int32)) rfl rfl ?_
  refine jw_anewA' (pc' := 101) (n := 300) (k := 134) rfl rfl rfl rfl rfl rfl rfl (jtb_mem (c := 1) (i := 127) rfl) ⟨by decide, rfl⟩ rfl (fun r_65 h_66 e_67 e_68 => ?_)
  replace w := w r_65 h_66 e_67 e_68
  refine jw_putR' (pc' := 104) (F := 30) rfl rfl rfl (Or.inr rfl) (Or.inr ⟨rfl, rfl⟩) rfl rfl rfl g_1 (fun h_69 e_70 => ?_)
  replace w := w h_69 e_70
  refine jw_aload_n (pc' := 105) rfl rfl ?_
  refine jw_bipush (pc' := 107) (x := (100 : Int32)) rfl rfl ?_
  refine jw_anewA' (pc' := 110) (n := 100) (k := 135) rfl rfl rfl rfl rfl rfl rfl (jtb_mem (c := 1) (i := 127) rfl) ⟨by decide, rfl⟩ rfl (fun r_71 h_72 e_73 e_74 => ?_)
  replace w := w r_71 h_72 e_73 e_74
  refine jw_putR' (pc' := 113) (F := 31) rfl rfl rfl (Or.inr rfl) (Or.inr ⟨rfl, rfl⟩) rfl rfl rfl g_1 (fun h_75 e_76 => ?_)
  replace w := w h_75 e_76
  refine jw_aload_n (pc' := 114) rfl rfl ?_
  refine jw_sipush (pc' := 117) (x := (300 : Int32)) rfl rfl ?_
  refine jw_newa' (pc' := 119) (n := 300) (k := 136) rfl rfl rfl rfl rfl rfl (lw_g (jtb_mem (c := 2) (i := 11) rfl) rfl) ⟨by decide, rfl⟩ (by decide) (fun r_77 h_78 e_79 e_80 => ?_)
  replace w := w r_77 h_78 e_79 e_80
  refine jw_putR' (pc' := 122) (F := 32) rfl rfl rfl (Or.inr rfl) (Or.inr ⟨rfl, rfl⟩) rfl rfl rfl g_1 (fun h_81 e_82 => ?_)
  replace w := w h_81 e_82
  refine jw_aload_n (pc' := 123) rfl rfl ?_
  refine jw_new' (pc' := 126) (k := 110) (n := 3) rfl rfl rfl rfl rfl rfl rfl (fun r_83 h_84 e_85 e_86 => ?_)
  replace w := w r_83 h_84 e_85 e_86
  refine jw_dup (pc' := 127) rfl rfl ?_
  refine jw_cV (st := [vR 110 r_83, vR 3 r0]) (sa := [vR 110 r_83]) okX7_init rfl rfl rfl rfl rfl rfl (jstp_init (sa := []) (st := [vR 110 r_83, vR 3 r0]) rfl rfl sX7_init okX7_init (lw_g (jtb_mem (c := 2) (i := 17) rfl) rfl) (jnz e_85) rfl rfl) w (fun h_87 _ _ w => ?_)
  refine jw_putR' (pc' := 133) (F := 34) rfl rfl rfl (Or.inr rfl) (Or.inr ⟨rfl, rfl⟩) rfl rfl rfl g_1 (fun h_90 e_91 => ?_)
  replace w := w h_90 e_91
  refine jw_aload_n (pc' := 134) rfl rfl ?_
  refine jw_iconst (pc' := 135) (x := (0 : Int32)) rfl rfl ?_
  refine jw_anew' (pc' := 138) (n := 0) (k := 137) rfl rfl rfl rfl rfl rfl rfl (jtb_mem (c := 1) (i := 178) rfl) ⟨by decide, rfl⟩ rfl (fun r_92 h_93 e_94 e_95 => ?_)
  replace w := w r_92 h_93 e_94 e_95
  refine jw_putR' (pc' := 141) (F := 38) rfl rfl rfl (Or.inr rfl) (Or.inr ⟨rfl, rfl⟩) rfl rfl rfl g_1 (fun h_96 e_97 => ?_)
  replace w := w h_96 e_97
  refine jw_aload_n (pc' := 142) rfl rfl ?_
  refine jw_iconst (pc' := 143) (x := (0 : Int32)) rfl rfl ?_
  refine jw_anew' (pc' := 146) (n := 0) (k := 138) rfl rfl rfl rfl rfl rfl rfl (jtb_mem (c := 1) (i := 176) rfl) ⟨by decide, rfl⟩ rfl (fun r_98 h_99 e_100 e_101 => ?_)
  replace w := w r_98 h_99 e_100 e_101
  refine jw_putR' (pc' := 149) (F := 39) rfl rfl rfl (Or.inr rfl) (Or.inr ⟨rfl, rfl⟩) rfl rfl rfl g_1 (fun h_102 e_103 => ?_)
  replace w := w h_102 e_103
  exact jw_return rfl rfl w
def T_X3_init (D : JD) (d : Nat) (Q : JO → JH → Prop) (r0 : Nat) (h : JH) : Prop := W_X3_init_0 D d Q r0 h
theorem t_X3_init {D : JD} {d : Nat} {Q : JO → JH → Prop} {r0 : Nat} {h : JH} (w : T_X3_init D d Q r0 h) : cX3_init D (d + 1) r0 h Q := by
  unfold T_X3_init at w
  unfold cX3_init
  exact w_X3_init_0 w
def W_X3_back_0 (D : JD) (d : Nat) (Q : JO → JH → Prop) (r0 : Nat) (h : JH) : Prop :=
  r0 ≠ 0 ∧ ((jfr h 20 r0) ≠ 0 ∧ (cX4_copy D d (jfr h 20 r0) (jfr h 21 r0) h (pV D h (fun h_3 => Q (.inl none) h_3) (jth Q))))
theorem w_X3_back_0 {D : JD} {d : Nat} {Q : JO → JH → Prop} {r0 : Nat} {h : JH} (w : W_X3_back_0 D d Q r0 h) : JW D (d + 1) mX3_back 0 [some (vR 3 r0)] [] h Q := by
  unfold W_X3_back_0 at w
  refine jw_aload_n (pc' := 1) rfl rfl ?_
  obtain ⟨g_1, w⟩ := w
  refine jw_getR (pc' := 4) (F := 20) (t' := 114) rfl rfl rfl rfl rfl g_1 ?_
  refine jw_aload_n (pc' := 5) rfl rfl ?_
  refine jw_getR (pc' := 8) (F := 21) (t' := 115) rfl rfl rfl rfl rfl g_1 ?_
  obtain ⟨g_2, w⟩ := w
  refine jw_cV (st := []) (sa := [vR 114 (jfr h 20 r0), vR 115 (jfr h 21 r0)]) okX4_copy rfl rfl rfl rfl rfl rfl (jstp_virtual (sa := [vR 115 (jfr h 21 r0)]) (st := []) (k := 0) rfl rfl sX4_copy okX4_copy g_2 (one114.k g_2) rfl rfl) w (fun h_3 _ _ w => ?_)
  exact jw_return rfl rfl w
def T_X3_back (D : JD) (d : Nat) (Q : JO → JH → Prop) (r0 : Nat) (h : JH) : Prop := W_X3_back_0 D d Q r0 h
theorem t_X3_back {D : JD} {d : Nat} {Q : JO → JH → Prop} {r0 : Nat} {h : JH} (w : T_X3_back D d Q r0 h) : cX3_back D (d + 1) r0 h Q := by
  unfold T_X3_back at w
  unfold cX3_back
  exact w_X3_back_0 w
def W_X3_status_26 (D : JD) (d : Nat) (Q : JO → JH → Prop) (s0 : Int32) (h : JH) : Prop :=
  Q (.inl (some (vI s0))) h
theorem w_X3_status_26 {D : JD} {d : Nat} {Q : JO → JH → Prop} {s0 : Int32} {h : JH} (w : W_X3_status_26 D d Q s0 h) : JW D (d + 1) mX3_status 26 [none] [vI s0] h Q := by
  unfold W_X3_status_26 at w
  exact jw_ireturn rfl rfl (rfl) w
def W_X3_status_0 (D : JD) (d : Nat) (Q : JO → JH → Prop) (r0 : Nat) (h : JH) : Prop :=
  r0 ≠ 0 ∧ ((¬ (jfi h 36 r0) = 0 → ((jfi h 37 r0) = 0 → W_X3_status_26 D d Q (84 : Int32) h) ∧ (¬ (jfi h 37 r0) = 0 → W_X3_status_26 D d Q (69 : Int32) h)) ∧ ((jfi h 36 r0) = 0 → W_X3_status_26 D d Q (73 : Int32) h))
theorem w_X3_status_0 {D : JD} {d : Nat} {Q : JO → JH → Prop} {r0 : Nat} {h : JH} (w : W_X3_status_0 D d Q r0 h) : JW D (d + 1) mX3_status 0 [some (vR 3 r0)] [] h Q := by
  unfold W_X3_status_0 at w
  refine jw_aload_n (pc' := 1) rfl rfl ?_
  obtain ⟨g_1, w⟩ := w
  refine jw_getI (pc' := 4) (F := 36) rfl rfl rfl rfl g_1 ?_
  refine jw_if_ne (tgt := 12) (pc' := 7) rfl rfl (fun c_2 => ?_) (fun c_2 => ?_)
  · replace w := w.1 c_2
    refine jw_aload_n (pc' := 13) rfl rfl ?_
    refine jw_getI (pc' := 16) (F := 37) rfl rfl rfl rfl g_1 ?_
    refine jw_if_eq (tgt := 24) (pc' := 19) rfl rfl (fun c_3 => ?_) (fun c_3 => ?_)
    · replace w := w.1 c_3
      refine jw_bipush (pc' := 26) (x := (84 : Int32)) rfl rfl ?_
      refine jw_gen (ls' := [none]) (st' := [vI (84 : Int32)]) (trivial) (And.intro (Or.inl rfl) (trivial)) ?_
      exact w_X3_status_26 w
    · replace w := w.2 c_3
      refine jw_bipush (pc' := 21) (x := (69 : Int32)) rfl rfl ?_
      refine jw_goto (pc' := 26) rfl rfl ?_
      refine jw_gen (ls' := [none]) (st' := [vI (69 : Int32)]) (trivial) (And.intro (Or.inl rfl) (trivial)) ?_
      exact w_X3_status_26 w
  · replace w := w.2 c_2
    refine jw_bipush (pc' := 9) (x := (73 : Int32)) rfl rfl ?_
    refine jw_goto (pc' := 26) rfl rfl ?_
    refine jw_gen (ls' := [none]) (st' := [vI (73 : Int32)]) (trivial) (And.intro (Or.inl rfl) (trivial)) ?_
    exact w_X3_status_26 w
def T_X3_status (D : JD) (d : Nat) (Q : JO → JH → Prop) (r0 : Nat) (h : JH) : Prop := W_X3_status_0 D d Q r0 h
theorem t_X3_status {D : JD} {d : Nat} {Q : JO → JH → Prop} {r0 : Nat} {h : JH} (w : T_X3_status D d Q r0 h) : cX3_status D (d + 1) r0 h Q := by
  unfold T_X3_status at w
  unfold cX3_status
  exact w_X3_status_0 w
def W_X3_save_0 (D : JD) (d : Nat) (Q : JO → JH → Prop) (r0 : Nat) (h : JH) : Prop :=
  r0 ≠ 0 ∧ ((jfr h 21 r0) ≠ 0 ∧ (cX4_copy D d (jfr h 21 r0) (jfr h 20 r0) h (pV D h (fun h_3 => Q (.inl none) h_3) (jth Q))))
theorem w_X3_save_0 {D : JD} {d : Nat} {Q : JO → JH → Prop} {r0 : Nat} {h : JH} (w : W_X3_save_0 D d Q r0 h) : JW D (d + 1) mX3_save 0 [some (vR 3 r0)] [] h Q := by
  unfold W_X3_save_0 at w
  refine jw_aload_n (pc' := 1) rfl rfl ?_
  obtain ⟨g_1, w⟩ := w
  refine jw_getR (pc' := 4) (F := 21) (t' := 115) rfl rfl rfl rfl rfl g_1 ?_
  refine jw_aload_n (pc' := 5) rfl rfl ?_
  refine jw_getR (pc' := 8) (F := 20) (t' := 114) rfl rfl rfl rfl rfl g_1 ?_
  obtain ⟨g_2, w⟩ := w
  refine jw_cV (st := []) (sa := [vR 115 (jfr h 21 r0), vR 114 (jfr h 20 r0)]) okX4_copy rfl rfl rfl rfl rfl rfl (jstp_virtual (sa := [vR 114 (jfr h 20 r0)]) (st := []) (k := 0) rfl rfl sX4_copy okX4_copy g_2 (one115.k g_2) rfl rfl) w (fun h_3 _ _ w => ?_)
  exact jw_return rfl rfl w
def T_X3_save (D : JD) (d : Nat) (Q : JO → JH → Prop) (r0 : Nat) (h : JH) : Prop := W_X3_save_0 D d Q r0 h
theorem t_X3_save {D : JD} {d : Nat} {Q : JO → JH → Prop} {r0 : Nat} {h : JH} (w : T_X3_save D d Q r0 h) : cX3_save D (d + 1) r0 h Q := by
  unfold T_X3_save at w
  unfold cX3_save
  exact w_X3_save_0 w
def W_X3_check_48 (D : JD) (d : Nat) (Q : JO → JH → Prop) (h : JH) : Prop :=
  Q (.inl none) h
theorem w_X3_check_48 {D : JD} {d : Nat} {Q : JO → JH → Prop} {h : JH} (w : W_X3_check_48 D d Q h) : JW D (d + 1) mX3_check 48 [none, none, none, none] [] h Q := by
  unfold W_X3_check_48 at w
  exact jw_return rfl rfl w
def W_X3_check_20 (D : JD) (d : Nat) (Q : JO → JH → Prop) (r0 : Nat) (r1 : Nat) (r2 : Nat) (r3 : Nat) (h : JH) : Prop :=
  r0 ≠ 0 ∧ ((jfr h 23 r0) ≠ 0 ∧ (cX6_clear D d (jfr h 23 r0) h (pV D h (fun h_3 => (jfr h_3 23 r0) ≠ 0 ∧ ∀ h_7 : JH, h_7 = wfr h_3 49 (jfr h_3 23 r0) r2 → ((jfr h_7 23 r0) ≠ 0 ∧ ∀ h_10 : JH, h_10 = wfr h_7 50 (jfr h_7 23 r0) r3 → (r1 ≠ 0 ∧ (v57_check D d r1 r0 h_10 (pV D h_10 (fun h_13 => W_X3_check_48 D d Q h_13) (jth Q)))))) (jth Q))))
theorem w_X3_check_20 {D : JD} {d : Nat} {Q : JO → JH → Prop} {r0 : Nat} {r1 : Nat} {r2 : Nat} {r3 : Nat} {h : JH} (w : W_X3_check_20 D d Q r0 r1 r2 r3 h) : JW D (d + 1) mX3_check 20 [some (vR 3 r0), some (vR 57 r1), some (vR 75 r2), some (vR 76 r3)] [] h Q := by
  unfold W_X3_check_20 at w
  refine jw_aload_n (pc' := 21) rfl rfl ?_
  obtain ⟨g_1, w⟩ := w
  refine jw_getR (pc' := 24) (F := 23) (t' := 6) rfl rfl rfl rfl rfl g_1 ?_
  obtain ⟨g_2, w⟩ := w
  refine jw_cV (st := []) (sa := [vR 6 (jfr h 23 r0)]) okX6_clear rfl rfl rfl rfl rfl rfl (jstp_virtual (sa := []) (st := []) (k := 0) rfl rfl sX6_clear okX6_clear g_2 (one6.k g_2) rfl rfl) w (fun h_3 _ _ w => ?_)
  refine jw_aload_n (pc' := 28) rfl rfl ?_
  refine jw_getR (pc' := 31) (F := 23) (t' := 6) rfl rfl rfl rfl rfl g_1 ?_
  refine jw_aload_n (pc' := 32) rfl rfl ?_
  obtain ⟨g_6, w⟩ := w
  refine jw_putR' (pc' := 35) (F := 49) rfl rfl rfl (Or.inr rfl) (Or.inl rfl) rfl rfl rfl g_6 (fun h_7 e_8 => ?_)
  replace w := w h_7 e_8
  refine jw_aload_n (pc' := 36) rfl rfl ?_
  refine jw_getR (pc' := 39) (F := 23) (t' := 6) rfl rfl rfl rfl rfl g_1 ?_
  refine jw_aload_n (pc' := 40) rfl rfl ?_
  obtain ⟨g_9, w⟩ := w
  refine jw_putR' (pc' := 43) (F := 50) rfl rfl rfl (Or.inr rfl) (Or.inl rfl) rfl rfl rfl g_9 (fun h_10 e_11 => ?_)
  replace w := w h_10 e_11
  refine jw_aload_n (pc' := 44) rfl rfl ?_
  refine jw_aload_n (pc' := 45) rfl rfl ?_
  obtain ⟨g_12, w⟩ := w
  refine JW.inv (fun hI => JW.oks (fun ho => ?_))
  have hkd := und57.k hI (ho (vR 57 r1) (by simp)) g_12
  simp only [List.mem_cons, List.not_mem_nil, or_false] at hkd
  clear ho hI
  rcases hkd with e_16 | e_16 | e_16 | e_16 | e_16 | e_16 | e_16
  · refine jw_gen (ls' := _) (st' := [vR 3 r0, vR 17 r1]) (jgl_rf _ _) (And.intro (Or.inl rfl) (And.intro (Or.inr ⟨_, _, _, rfl, rfl, Or.inr (Or.inr (by rw [e_16]; rfl))⟩) (jgs_rf _ _))) ?_
    refine jw_cV (st := []) (sa := [vR 17 r1, vR 3 r0]) okX21_check rfl rfl rfl rfl rfl rfl (jstp_up (sa := [vR 3 r0]) (st := []) rfl (lw_g (jtb_mem (c := 10) (i := 5) rfl) rfl) um102 okX21_check g_12 (fun _ _ => by rw [e_16]; exact ⟨rfl, rfl⟩) rfl rfl) (w.1 e_16) (fun h_13 _ _ w => ?_)
    refine jw_gen (ls' := [none, none, none, none]) (st' := []) (trivial) (trivial) ?_
    exact w_X3_check_48 w
  · refine jw_gen (ls' := _) (st' := [vR 3 r0, vR 18 r1]) (jgl_rf _ _) (And.intro (Or.inl rfl) (And.intro (Or.inr ⟨_, _, _, rfl, rfl, Or.inr (Or.inr (by rw [e_16]; rfl))⟩) (jgs_rf _ _))) ?_
    refine jw_cV (st := []) (sa := [vR 18 r1, vR 3 r0]) okX22_check rfl rfl rfl rfl rfl rfl (jstp_up (sa := [vR 3 r0]) (st := []) rfl (lw_g (jtb_mem (c := 10) (i := 5) rfl) rfl) um103 okX22_check g_12 (fun _ _ => by rw [e_16]; exact ⟨rfl, rfl⟩) rfl rfl) (w.2.1 e_16) (fun h_13 _ _ w => ?_)
    refine jw_gen (ls' := [none, none, none, none]) (st' := []) (trivial) (trivial) ?_
    exact w_X3_check_48 w
  · refine jw_gen (ls' := _) (st' := [vR 3 r0, vR 19 r1]) (jgl_rf _ _) (And.intro (Or.inl rfl) (And.intro (Or.inr ⟨_, _, _, rfl, rfl, Or.inr (Or.inr (by rw [e_16]; rfl))⟩) (jgs_rf _ _))) ?_
    refine jw_cV (st := []) (sa := [vR 19 r1, vR 3 r0]) okX23_check rfl rfl rfl rfl rfl rfl (jstp_up (sa := [vR 3 r0]) (st := []) rfl (lw_g (jtb_mem (c := 10) (i := 5) rfl) rfl) um104 okX23_check g_12 (fun _ _ => by rw [e_16]; exact ⟨rfl, rfl⟩) rfl rfl) (w.2.2.1 e_16) (fun h_13 _ _ w => ?_)
    refine jw_gen (ls' := [none, none, none, none]) (st' := []) (trivial) (trivial) ?_
    exact w_X3_check_48 w
  · refine jw_gen (ls' := _) (st' := [vR 3 r0, vR 30 r1]) (jgl_rf _ _) (And.intro (Or.inl rfl) (And.intro (Or.inr ⟨_, _, _, rfl, rfl, Or.inr (Or.inr (by rw [e_16]; rfl))⟩) (jgs_rf _ _))) ?_
    refine jw_cV (st := []) (sa := [vR 30 r1, vR 3 r0]) okX37_check rfl rfl rfl rfl rfl rfl (jstp_up (sa := [vR 3 r0]) (st := []) rfl (lw_g (jtb_mem (c := 10) (i := 5) rfl) rfl) um105 okX37_check g_12 (fun _ _ => by rw [e_16]; exact ⟨rfl, rfl⟩) rfl rfl) (w.2.2.2.1 e_16) (fun h_13 _ _ w => ?_)
    refine jw_gen (ls' := [none, none, none, none]) (st' := []) (trivial) (trivial) ?_
    exact w_X3_check_48 w
  · refine jw_gen (ls' := _) (st' := [vR 3 r0, vR 32 r1]) (jgl_rf _ _) (And.intro (Or.inl rfl) (And.intro (Or.inr ⟨_, _, _, rfl, rfl, Or.inr (Or.inr (by rw [e_16]; rfl))⟩) (jgs_rf _ _))) ?_
    refine jw_cV (st := []) (sa := [vR 32 r1, vR 3 r0]) okX39_check rfl rfl rfl rfl rfl rfl (jstp_up (sa := [vR 3 r0]) (st := []) rfl (lw_g (jtb_mem (c := 10) (i := 5) rfl) rfl) um106 okX39_check g_12 (fun _ _ => by rw [e_16]; exact ⟨rfl, rfl⟩) rfl rfl) (w.2.2.2.2.1 e_16) (fun h_13 _ _ w => ?_)
    refine jw_gen (ls' := [none, none, none, none]) (st' := []) (trivial) (trivial) ?_
    exact w_X3_check_48 w
  · refine jw_gen (ls' := _) (st' := [vR 3 r0, vR 33 r1]) (jgl_rf _ _) (And.intro (Or.inl rfl) (And.intro (Or.inr ⟨_, _, _, rfl, rfl, Or.inr (Or.inr (by rw [e_16]; rfl))⟩) (jgs_rf _ _))) ?_
    refine jw_cV (st := []) (sa := [vR 33 r1, vR 3 r0]) okX40_check rfl rfl rfl rfl rfl rfl (jstp_up (sa := [vR 3 r0]) (st := []) rfl (lw_g (jtb_mem (c := 10) (i := 5) rfl) rfl) um107 okX40_check g_12 (fun _ _ => by rw [e_16]; exact ⟨rfl, rfl⟩) rfl rfl) (w.2.2.2.2.2.1 e_16) (fun h_13 _ _ w => ?_)
    refine jw_gen (ls' := [none, none, none, none]) (st' := []) (trivial) (trivial) ?_
    exact w_X3_check_48 w
  · refine jw_gen (ls' := _) (st' := [vR 3 r0, vR 35 r1]) (jgl_rf _ _) (And.intro (Or.inl rfl) (And.intro (Or.inr ⟨_, _, _, rfl, rfl, Or.inr (Or.inr (by rw [e_16]; rfl))⟩) (jgs_rf _ _))) ?_
    refine jw_cV (st := []) (sa := [vR 35 r1, vR 3 r0]) okX42_check rfl rfl rfl rfl rfl rfl (jstp_up (sa := [vR 3 r0]) (st := []) rfl (lw_g (jtb_mem (c := 10) (i := 5) rfl) rfl) um108 okX42_check g_12 (fun _ _ => by rw [e_16]; exact ⟨rfl, rfl⟩) rfl rfl) (w.2.2.2.2.2.2 e_16) (fun h_13 _ _ w => ?_)
    refine jw_gen (ls' := [none, none, none, none]) (st' := []) (trivial) (trivial) ?_
    exact w_X3_check_48 w
def W_X3_check_0 (D : JD) (d : Nat) (Q : JO → JH → Prop) (r0 : Nat) (r1 : Nat) (r2 : Nat) (r3 : Nat) (h : JH) : Prop :=
  r0 ≠ 0 ∧ (((jfi h 37 r0) = 0 → W_X3_check_20 D d Q r0 r1 r2 r3 h) ∧ (¬ (jfi h 37 r0) = 0 → cX3_ends D d r1 h (pI D h (fun v_5 h_3 => (¬ v_5 = 0 → W_X3_check_20 D d Q r0 r1 r2 r3 h_3) ∧ (v_5 = 0 → cX1_fault D d (jcs D 152) h_3 (pR D h_3 9 (fun v_9 h_7 => v_9 ≠ 0 ∧ (Q (.inr v_9) h_7)) (jth Q)))) (jth Q))))
theorem w_X3_check_0 {D : JD} {d : Nat} {Q : JO → JH → Prop} {r0 : Nat} {r1 : Nat} {r2 : Nat} {r3 : Nat} {h : JH} (w : W_X3_check_0 D d Q r0 r1 r2 r3 h) : JW D (d + 1) mX3_check 0 [some (vR 3 r0), some (vR 57 r1), some (vR 75 r2), some (vR 76 r3)] [] h Q := by
  unfold W_X3_check_0 at w
  refine jw_aload_n (pc' := 1) rfl rfl ?_
  obtain ⟨g_1, w⟩ := w
  refine jw_getI (pc' := 4) (F := 37) rfl rfl rfl rfl g_1 ?_
  refine jw_if_eq (tgt := 20) (pc' := 7) rfl rfl (fun c_2 => ?_) (fun c_2 => ?_)
  · replace w := w.1 c_2
    exact w_X3_check_20 w
  · replace w := w.2 c_2
    refine jw_aload_n (pc' := 8) rfl rfl ?_
    refine jw_cI (st := []) (sa := [vR 57 r1]) okX3_ends rfl rfl rfl rfl rfl rfl (jstp_static (sa := [vR 57 r1]) (st := []) rfl rfl sX3_ends okX3_ends rfl rfl) w (fun v_5 h_3 _ _ w => ?_)
    refine jw_if_ne (tgt := 20) (pc' := 14) rfl rfl (fun c_6 => ?_) (fun c_6 => ?_)
    · replace w := w.1 c_6
      exact w_X3_check_20 w
    · replace w := w.2 c_6
      refine jw_ldcS (pc' := 16) rfl rfl rfl rfl ?_
      refine jw_cR (st := []) (sa := [vR 51 (jcs D 152)]) okX1_fault rfl rfl rfl rfl rfl rfl (jstp_static (sa := [vR 51 (jcs D 152)]) (st := []) rfl rfl sX1_fault okX1_fault rfl rfl) w (fun v_9 h_7 _ _ _ w => ?_)
      obtain ⟨g_10, w⟩ := w
      exact jw_athrow rfl rfl g_10 w
def T_X3_check (D : JD) (d : Nat) (Q : JO → JH → Prop) (r0 : Nat) (r1 : Nat) (r2 : Nat) (r3 : Nat) (h : JH) : Prop := W_X3_check_0 D d Q r0 r1 r2 r3 h
theorem t_X3_check {D : JD} {d : Nat} {Q : JO → JH → Prop} {r0 : Nat} {r1 : Nat} {r2 : Nat} {r3 : Nat} {h : JH} (w : T_X3_check D d Q r0 r1 r2 r3 h) : cX3_check D (d + 1) r0 r1 r2 r3 h Q := by
  unfold T_X3_check at w
  unfold cX3_check
  exact w_X3_check_0 w
def W_X3_ends_27 (D : JD) (d : Nat) (Q : JO → JH → Prop) (s0 : Int32) (h : JH) : Prop :=
  jbo s0 ∧ (Q (.inl (some (vI s0))) h)
theorem w_X3_ends_27 {D : JD} {d : Nat} {Q : JO → JH → Prop} {s0 : Int32} {h : JH} (w : W_X3_ends_27 D d Q s0 h) : JW D (d + 1) mX3_ends 27 [none] [vI s0] h Q := by
  unfold W_X3_ends_27 at w
  obtain ⟨g_1, w⟩ := w
  exact jw_ireturn rfl rfl (g_1.nr) w
def W_X3_ends_26 (D : JD) (d : Nat) (Q : JO → JH → Prop) (h : JH) : Prop :=
  W_X3_ends_27 D d Q (0 : Int32) h
theorem w_X3_ends_26 {D : JD} {d : Nat} {Q : JO → JH → Prop} {h : JH} (w : W_X3_ends_26 D d Q h) : JW D (d + 1) mX3_ends 26 [none] [] h Q := by
  unfold W_X3_ends_26 at w
  refine jw_iconst (pc' := 27) (x := (0 : Int32)) rfl rfl ?_
  exact w_X3_ends_27 w
def W_X3_ends_0 (D : JD) (d : Nat) (Q : JO → JH → Prop) (r0 : Nat) (h : JH) : Prop :=
  ((r0 ≠ 0 ∧ jkd h r0 = 35) → (r0 = 0 ∨ jkd h r0 = 35) ∧ (r0 ≠ 0 ∧ ((jfr h 165 r0) ≠ 0 ∧ (cJ5_equals D d (jfr h 165 r0) (jcs D 151) h (pI D h (fun v_8 h_6 => (¬ v_8 = 0 → W_X3_ends_26 D d Q h_6) ∧ (v_8 = 0 → W_X3_ends_27 D d Q (1 : Int32) h_6)) (jth Q)))))) ∧ (¬ (r0 ≠ 0 ∧ jkd h r0 = 35) → W_X3_ends_26 D d Q h)
theorem w_X3_ends_0 {D : JD} {d : Nat} {Q : JO → JH → Prop} {r0 : Nat} {h : JH} (w : W_X3_ends_0 D d Q r0 h) : JW D (d + 1) mX3_ends 0 [some (vR 57 r0)] [] h Q := by
  unfold W_X3_ends_0 at w
  refine jw_aload_n (pc' := 1) rfl rfl ?_
  refine jw_inst (pc' := 4) (t := 57) (kt := 35) rfl rfl rfl rfl (by decide +kernel) (fun c_1 => ?_) (fun c_1 => ?_)
  · replace w := w.1 c_1
    refine jw_if_eq (tgt := 26) (pc' := 7) rfl rfl (fun c_2 => absurd c_2 (by decide)) (fun _ => ?_)
    refine jw_aload_n (pc' := 8) rfl rfl ?_
    obtain ⟨g_3, w⟩ := w
    refine jw_cast (pc' := 11) (t2 := 35) rfl rfl rfl rfl g_3 ?_
    obtain ⟨g_4, w⟩ := w
    refine jw_getR (pc' := 14) (F := 165) (t' := 64) rfl rfl rfl rfl rfl g_4 ?_
    refine jw_ldcS (pc' := 16) rfl rfl rfl rfl ?_
    obtain ⟨g_5, w⟩ := w
    refine jw_cI (st := []) (sa := [vR 64 (jfr h 165 r0), vR 51 (jcs D 151)]) okJ5_equals rfl rfl rfl rfl rfl rfl (jstp_virtual (sa := [vR 51 (jcs D 151)]) (st := []) (k := 0) rfl rfl sJ5_equals okJ5_equals g_5 (one64.k g_5) rfl rfl) w (fun v_8 h_6 _ _ w => ?_)
    refine jw_if_ne (tgt := 26) (pc' := 22) rfl rfl (fun c_9 => ?_) (fun c_9 => ?_)
    · replace w := w.1 c_9
      refine jw_gen (ls' := [none]) (st' := []) (trivial) (trivial) ?_
      exact w_X3_ends_26 w
    · replace w := w.2 c_9
      refine jw_iconst (pc' := 23) (x := (1 : Int32)) rfl rfl ?_
      refine jw_goto (pc' := 27) rfl rfl ?_
      refine jw_gen (ls' := [none]) (st' := [vI (1 : Int32)]) (trivial) (And.intro (Or.inl rfl) (trivial)) ?_
      exact w_X3_ends_27 w
  · replace w := w.2 c_1
    refine jw_if_eq (tgt := 26) (pc' := 7) rfl rfl (fun _ => ?_) (fun c_10 => absurd c_10 (by decide))
    refine jw_gen (ls' := [none]) (st' := []) (trivial) (trivial) ?_
    exact w_X3_ends_26 w
def T_X3_ends (D : JD) (d : Nat) (Q : JO → JH → Prop) (r0 : Nat) (h : JH) : Prop := W_X3_ends_0 D d Q r0 h
theorem t_X3_ends {D : JD} {d : Nat} {Q : JO → JH → Prop} {r0 : Nat} {h : JH} (w : T_X3_ends D d Q r0 h) : cX3_ends D (d + 1) r0 h Q := by
  unfold T_X3_ends at w
  unfold cX3_ends
  exact w_X3_ends_0 w
def W_X3_begin_11 (D : JD) (d : Nat) (Q : JO → JH → Prop) (r0 : Nat) (h : JH) : Prop :=
  r0 ≠ 0 ∧ ∀ h_2 : JH, h_2 = wfi h 36 r0 (1 : Int32) → (Q (.inl (some (vR 64 (jcs D 187)))) h_2)
theorem w_X3_begin_11 {D : JD} {d : Nat} {Q : JO → JH → Prop} {r0 : Nat} {h : JH} (w : W_X3_begin_11 D d Q r0 h) : JW D (d + 1) mX3_begin 11 [some (vR 3 r0)] [] h Q := by
  unfold W_X3_begin_11 at w
  refine jw_aload_n (pc' := 12) rfl rfl ?_
  refine jw_iconst (pc' := 13) (x := (1 : Int32)) rfl rfl ?_
  obtain ⟨g_1, w⟩ := w
  refine jw_putI' (pc' := 16) (F := 36) rfl rfl rfl (Or.inr rfl) (Or.inl rfl) rfl (rfl) (rfl) rfl g_1 (fun h_2 e_3 => ?_)
  replace w := w h_2 e_3
  refine jw_ldcS (pc' := 18) rfl rfl rfl rfl ?_
  exact jw_areturn rfl rfl rfl rfl rfl w
def W_X3_begin_0 (D : JD) (d : Nat) (Q : JO → JH → Prop) (r0 : Nat) (h : JH) : Prop :=
  r0 ≠ 0 ∧ ((¬ (jfi h 36 r0) = 0 → W_X3_begin_11 D d Q r0 h) ∧ ((jfi h 36 r0) = 0 → cX3_save D d r0 h (pV D h (fun h_3 => W_X3_begin_11 D d Q r0 h_3) (jth Q))))
theorem w_X3_begin_0 {D : JD} {d : Nat} {Q : JO → JH → Prop} {r0 : Nat} {h : JH} (w : W_X3_begin_0 D d Q r0 h) : JW D (d + 1) mX3_begin 0 [some (vR 3 r0)] [] h Q := by
  unfold W_X3_begin_0 at w
  refine jw_aload_n (pc' := 1) rfl rfl ?_
  obtain ⟨g_1, w⟩ := w
  refine jw_getI (pc' := 4) (F := 36) rfl rfl rfl rfl g_1 ?_
  refine jw_if_ne (tgt := 11) (pc' := 7) rfl rfl (fun c_2 => ?_) (fun c_2 => ?_)
  · replace w := w.1 c_2
    exact w_X3_begin_11 w
  · replace w := w.2 c_2
    refine jw_aload_n (pc' := 8) rfl rfl ?_
    refine jw_cV (st := []) (sa := [vR 3 r0]) okX3_save rfl rfl rfl rfl rfl rfl (jstp_virtual (sa := []) (st := []) (k := 0) rfl rfl sX3_save okX3_save g_1 (one3.k g_1) rfl rfl) w (fun h_3 _ _ w => ?_)
    exact w_X3_begin_11 w
def T_X3_begin (D : JD) (d : Nat) (Q : JO → JH → Prop) (r0 : Nat) (h : JH) : Prop := W_X3_begin_0 D d Q r0 h
theorem t_X3_begin {D : JD} {d : Nat} {Q : JO → JH → Prop} {r0 : Nat} {h : JH} (w : T_X3_begin D d Q r0 h) : cX3_begin D (d + 1) r0 h Q := by
  unfold T_X3_begin at w
  unfold cX3_begin
  exact w_X3_begin_0 w
def W_X3_commit_0 (D : JD) (d : Nat) (Q : JO → JH → Prop) (r0 : Nat) (h : JH) : Prop :=
  r0 ≠ 0 ∧ (((jfi h 37 r0) = 0 → cX3_save D d r0 h (pV D h (fun h_3 => ∀ h_6 : JH, h_6 = wfi h_3 36 r0 (0 : Int32) → (Q (.inl (some (vR 64 (jcs D 189)))) h_6)) (jth Q))) ∧ (¬ (jfi h 37 r0) = 0 → cX3_rollback D d r0 h (pR D h 64 (fun v_10 h_8 => Q (.inl (some (vR 64 v_10))) h_8) (jth Q))))
theorem w_X3_commit_0 {D : JD} {d : Nat} {Q : JO → JH → Prop} {r0 : Nat} {h : JH} (w : W_X3_commit_0 D d Q r0 h) : JW D (d + 1) mX3_commit 0 [some (vR 3 r0)] [] h Q := by
  unfold W_X3_commit_0 at w
  refine jw_aload_n (pc' := 1) rfl rfl ?_
  obtain ⟨g_1, w⟩ := w
  refine jw_getI (pc' := 4) (F := 37) rfl rfl rfl rfl g_1 ?_
  refine jw_if_eq (tgt := 12) (pc' := 7) rfl rfl (fun c_2 => ?_) (fun c_2 => ?_)
  · replace w := w.1 c_2
    refine jw_aload_n (pc' := 13) rfl rfl ?_
    refine jw_cV (st := []) (sa := [vR 3 r0]) okX3_save rfl rfl rfl rfl rfl rfl (jstp_virtual (sa := []) (st := []) (k := 0) rfl rfl sX3_save okX3_save g_1 (one3.k g_1) rfl rfl) w (fun h_3 _ _ w => ?_)
    refine jw_aload_n (pc' := 17) rfl rfl ?_
    refine jw_iconst (pc' := 18) (x := (0 : Int32)) rfl rfl ?_
    refine jw_putI' (pc' := 21) (F := 36) rfl rfl rfl (Or.inr rfl) (Or.inl rfl) rfl (rfl) (rfl) rfl g_1 (fun h_6 e_7 => ?_)
    replace w := w h_6 e_7
    refine jw_ldcS (pc' := 23) rfl rfl rfl rfl ?_
    exact jw_areturn rfl rfl rfl rfl rfl w
  · replace w := w.2 c_2
    refine jw_aload_n (pc' := 8) rfl rfl ?_
    refine jw_cR (st := []) (sa := [vR 3 r0]) okX3_rollback rfl rfl rfl rfl rfl rfl (jstp_virtual (sa := []) (st := []) (k := 0) rfl rfl sX3_rollback okX3_rollback g_1 (one3.k g_1) rfl rfl) w (fun v_10 h_8 _ _ _ w => ?_)
    exact jw_areturn rfl rfl rfl rfl rfl w
def T_X3_commit (D : JD) (d : Nat) (Q : JO → JH → Prop) (r0 : Nat) (h : JH) : Prop := W_X3_commit_0 D d Q r0 h
theorem t_X3_commit {D : JD} {d : Nat} {Q : JO → JH → Prop} {r0 : Nat} {h : JH} (w : T_X3_commit D d Q r0 h) : cX3_commit D (d + 1) r0 h Q := by
  unfold T_X3_commit at w
  unfold cX3_commit
  exact w_X3_commit_0 w
def W_X3_rollback_0 (D : JD) (d : Nat) (Q : JO → JH → Prop) (r0 : Nat) (h : JH) : Prop :=
  r0 ≠ 0 ∧ (cX3_back D d r0 h (pV D h (fun h_2 => ∀ h_5 : JH, h_5 = wfi h_2 36 r0 (0 : Int32) → (∀ h_7 : JH, h_7 = wfi h_5 37 r0 (0 : Int32) → (Q (.inl (some (vR 64 (jcs D 188)))) h_7))) (jth Q)))
theorem w_X3_rollback_0 {D : JD} {d : Nat} {Q : JO → JH → Prop} {r0 : Nat} {h : JH} (w : W_X3_rollback_0 D d Q r0 h) : JW D (d + 1) mX3_rollback 0 [some (vR 3 r0)] [] h Q := by
  unfold W_X3_rollback_0 at w
  refine jw_aload_n (pc' := 1) rfl rfl ?_
  obtain ⟨g_1, w⟩ := w
  refine jw_cV (st := []) (sa := [vR 3 r0]) okX3_back rfl rfl rfl rfl rfl rfl (jstp_virtual (sa := []) (st := []) (k := 0) rfl rfl sX3_back okX3_back g_1 (one3.k g_1) rfl rfl) w (fun h_2 _ _ w => ?_)
  refine jw_aload_n (pc' := 5) rfl rfl ?_
  refine jw_iconst (pc' := 6) (x := (0 : Int32)) rfl rfl ?_
  refine jw_putI' (pc' := 9) (F := 36) rfl rfl rfl (Or.inr rfl) (Or.inl rfl) rfl (rfl) (rfl) rfl g_1 (fun h_5 e_6 => ?_)
  replace w := w h_5 e_6
  refine jw_aload_n (pc' := 10) rfl rfl ?_
  refine jw_iconst (pc' := 11) (x := (0 : Int32)) rfl rfl ?_
  refine jw_putI' (pc' := 14) (F := 37) rfl rfl rfl (Or.inr rfl) (Or.inl rfl) rfl (rfl) (rfl) rfl g_1 (fun h_7 e_8 => ?_)
  replace w := w h_7 e_8
  refine jw_ldcS (pc' := 16) rfl rfl rfl rfl ?_
  exact jw_areturn rfl rfl rfl rfl rfl w
def T_X3_rollback (D : JD) (d : Nat) (Q : JO → JH → Prop) (r0 : Nat) (h : JH) : Prop := W_X3_rollback_0 D d Q r0 h
theorem t_X3_rollback {D : JD} {d : Nat} {Q : JO → JH → Prop} {r0 : Nat} {h : JH} (w : T_X3_rollback D d Q r0 h) : cX3_rollback D (d + 1) r0 h Q := by
  unfold T_X3_rollback at w
  unfold cX3_rollback
  exact w_X3_rollback_0 w
def W_X3_scratch_0 (D : JD) (d : Nat) (Q : JO → JH → Prop) (r0 : Nat) (x1 : Int32) (h : JH) : Prop :=
  r0 ≠ 0 ∧ (cX3_cells D d (jfr h 31 r0) x1 (10 : Int32) h (pR D h 76 (fun v_4 h_2 => Q (.inl (some (vR 76 v_4))) h_2) (jth Q)))
theorem w_X3_scratch_0 {D : JD} {d : Nat} {Q : JO → JH → Prop} {r0 : Nat} {x1 : Int32} {h : JH} (w : W_X3_scratch_0 D d Q r0 x1 h) : JW D (d + 1) mX3_scratch 0 [some (vR 3 r0), some (vI x1)] [] h Q := by
  unfold W_X3_scratch_0 at w
  refine jw_aload_n (pc' := 1) rfl rfl ?_
  obtain ⟨g_1, w⟩ := w
  refine jw_getR (pc' := 4) (F := 31) (t' := 135) rfl rfl rfl rfl rfl g_1 ?_
  refine jw_iload_n (pc' := 5) rfl rfl ?_
  refine jw_bipush (pc' := 7) (x := (10 : Int32)) rfl rfl ?_
  refine jw_cR (st := []) (sa := [vR 135 (jfr h 31 r0), vI x1, vI (10 : Int32)]) okX3_cells rfl rfl rfl rfl rfl rfl (jstp_static (sa := [vR 135 (jfr h 31 r0), vI x1, vI (10 : Int32)]) (st := []) rfl rfl sX3_cells okX3_cells rfl rfl) w (fun v_4 h_2 _ _ _ w => ?_)
  exact jw_areturn rfl rfl rfl rfl rfl w
def T_X3_scratch (D : JD) (d : Nat) (Q : JO → JH → Prop) (r0 : Nat) (x1 : Int32) (h : JH) : Prop := W_X3_scratch_0 D d Q r0 x1 h
theorem t_X3_scratch {D : JD} {d : Nat} {Q : JO → JH → Prop} {r0 : Nat} {x1 : Int32} {h : JH} (w : T_X3_scratch D d Q r0 x1 h) : cX3_scratch D (d + 1) r0 x1 h Q := by
  unfold T_X3_scratch at w
  unfold cX3_scratch
  exact w_X3_scratch_0 w
def W_X3_cells_38 (D : JD) (d : Nat) (Q : JO → JH → Prop) (r0 : Nat) (x1 : Int32) (h : JH) : Prop :=
  r0 ≠ 0 ∧ jin x1 (jln h r0) ∧ (Q (.inl (some (vR 76 (jar h r0 (ixn x1))))) h)
theorem w_X3_cells_38 {D : JD} {d : Nat} {Q : JO → JH → Prop} {r0 : Nat} {x1 : Int32} {h : JH} (w : W_X3_cells_38 D d Q r0 x1 h) : JW D (d + 1) mX3_cells 38 [some (vR 92 r0), some (vI x1), none, none] [] h Q := by
  unfold W_X3_cells_38 at w
  refine jw_aload_n (pc' := 39) rfl rfl ?_
  refine jw_iload_n (pc' := 40) rfl rfl ?_
  obtain ⟨g_1, w⟩ := w
  obtain ⟨g_2, w⟩ := w
  refine jw_aald (pc' := 41) (t' := 76) rfl rfl rfl rfl g_1 g_2.ix g_2.2 ?_
  exact jw_areturn rfl rfl rfl rfl rfl w
def W_X3_cells_15 (D : JD) (d : Nat) (Q : JO → JH → Prop) (K15 : Nat → Int32 → Int32 → Int32 → JH → Prop) (r0 : Nat) (x1 : Int32) (x2 : Int32) (x3 : Int32) (h : JH) : Prop :=
  (x2 ≤ x3 → W_X3_cells_38 D d Q r0 x1 h) ∧ (¬ x2 ≤ x3 → r0 ≠ 0 ∧ jin x1 (jln h r0) ∧ (∀ (r_4 : Nat) (h_5 : JH), r_4 = jsz h + 1 → h_5 = nwo h 97 5 → (cX14_init D d r_4 h_5 (pV D h_5 (fun h_8 => (jar h r0 (ixn x1)) ≠ 0 ∧ jin x3 (jln h_8 (jar h r0 (ixn x1))) ∧ ∀ h_13 : JH, h_13 = war h_8 (jar h r0 (ixn x1)) (ixn x3) r_4 → (K15 r0 x1 x2 (x3 + (1 : Int32)) h_13)) (jth Q)))))
theorem w_X3_cells_15 {D : JD} {d : Nat} {Q : JO → JH → Prop} {K15 : Nat → Int32 → Int32 → Int32 → JH → Prop} {r0 : Nat} {x1 : Int32} {x2 : Int32} {x3 : Int32} {h : JH} (hK15 : ∀ (r0 : Nat) (x1 : Int32) (x2 : Int32) (x3 : Int32) (h : JH), K15 r0 x1 x2 x3 h → JW D (d + 1) mX3_cells 15 [some (vR 92 r0), some (vI x1), some (vI x2), some (vI x3)] [] h Q) (w : W_X3_cells_15 D d Q K15 r0 x1 x2 x3 h) : JW D (d + 1) mX3_cells 15 [some (vR 92 r0), some (vI x1), some (vI x2), some (vI x3)] [] h Q := by
  unfold W_X3_cells_15 at w
  refine jw_iload_n (pc' := 16) rfl rfl ?_
  refine jw_iload_n (pc' := 17) rfl rfl ?_
  refine jw_icmp_ge (tgt := 38) (pc' := 20) rfl rfl (fun c_1 => ?_) (fun c_1 => ?_)
  · replace w := w.1 c_1
    refine jw_gen (ls' := [some (vR 92 r0), some (vI x1), none, none]) (st' := []) (And.intro (Or.inl rfl) (And.intro (Or.inl rfl) (trivial))) (trivial) ?_
    exact w_X3_cells_38 w
  · replace w := w.2 c_1
    refine jw_aload_n (pc' := 21) rfl rfl ?_
    refine jw_iload_n (pc' := 22) rfl rfl ?_
    obtain ⟨g_2, w⟩ := w
    obtain ⟨g_3, w⟩ := w
    refine jw_aald (pc' := 23) (t' := 76) rfl rfl rfl rfl g_2 g_3.ix g_3.2 ?_
    refine jw_iload_n (pc' := 24) rfl rfl ?_
    refine jw_new' (pc' := 27) (k := 97) (n := 5) rfl rfl rfl rfl rfl rfl rfl (fun r_4 h_5 e_6 e_7 => ?_)
    replace w := w r_4 h_5 e_6 e_7
    refine jw_dup (pc' := 28) rfl rfl ?_
    refine jw_cV (st := [vR 97 r_4, vI x3, vR 76 (jar h r0 (ixn x1))]) (sa := [vR 97 r_4]) okX14_init rfl rfl rfl rfl rfl rfl (jstp_init (sa := []) (st := [vR 97 r_4, vI x3, vR 76 (jar h r0 (ixn x1))]) rfl rfl sX14_init okX14_init (lw_g (jtb_mem (c := 2) (i := 222) rfl) rfl) (jnz e_6) rfl rfl) w (fun h_8 _ _ w => ?_)
    obtain ⟨g_11, w⟩ := w
    obtain ⟨g_12, w⟩ := w
    refine jw_aast' (pc' := 32) rfl rfl rfl rfl rfl rfl g_11 g_12 (fun h_13 e_14 => ?_)
    replace w := w h_13 e_14
    refine jw_iinc (pc' := 35) (y := x3 + (1 : Int32)) (ls' := [some (vR 92 r0), some (vI x1), some (vI x2), some (vI (x3 + (1 : Int32)))]) rfl (by decide) rfl rfl rfl ?_
    refine jw_goto (pc' := 15) rfl rfl ?_
    exact hK15 _ _ _ _ _ w
def L_X3_cells_15 (D : JD) (d : Nat) (Q : JO → JH → Prop) : Nat → Nat → Int32 → Int32 → Int32 → JH → Prop
  | 0 => fun _ _ _ _ _ => False
  | n + 1 => fun r0 x1 x2 x3 h => W_X3_cells_15 D d Q (L_X3_cells_15 D d Q n) r0 x1 x2 x3 h
theorem l_X3_cells_15 {D : JD} {d : Nat} {Q : JO → JH → Prop} : ∀ (n : Nat) (r0 : Nat) (x1 : Int32) (x2 : Int32) (x3 : Int32) (h : JH), L_X3_cells_15 D d Q n r0 x1 x2 x3 h → JW D (d + 1) mX3_cells 15 [some (vR 92 r0), some (vI x1), some (vI x2), some (vI x3)] [] h Q := by
  intro n
  induction n with
  | zero => intro _ _ _ _ _ w; exact w.elim
  | succ n ih => intro _ _ _ _ h w; exact w_X3_cells_15 ih w
def W_X3_cells_0 (D : JD) (d : Nat) (Q : JO → JH → Prop) (r0 : Nat) (x1 : Int32) (x2 : Int32) (h : JH) : Prop :=
  r0 ≠ 0 ∧ jin x1 (jln h r0) ∧ (((jar h r0 (ixn x1)) ≠ 0 → W_X3_cells_38 D d Q r0 x1 h) ∧ ((jar h r0 (ixn x1)) = 0 → jsm x2 ∧ ∀ (r_4 : Nat) (h_5 : JH), r_4 = jsz h + 1 → h_5 = nwa h 223 (ixn x2) → (jin x1 (jln h_5 r0) ∧ ∀ h_10 : JH, h_10 = war h_5 r0 (ixn x1) r_4 → (∃ n, L_X3_cells_15 D d Q n r0 x1 x2 (0 : Int32) h_10))))
theorem w_X3_cells_0 {D : JD} {d : Nat} {Q : JO → JH → Prop} {r0 : Nat} {x1 : Int32} {x2 : Int32} {h : JH} (w : W_X3_cells_0 D d Q r0 x1 x2 h) : JW D (d + 1) mX3_cells 0 [some (vR 92 r0), some (vI x1), some (vI x2), none] [] h Q := by
  unfold W_X3_cells_0 at w
  refine jw_aload_n (pc' := 1) rfl rfl ?_
  refine jw_iload_n (pc' := 2) rfl rfl ?_
  obtain ⟨g_1, w⟩ := w
  obtain ⟨g_2, w⟩ := w
  refine jw_aald (pc' := 3) (t' := 76) rfl rfl rfl rfl g_1 g_2.ix g_2.2 ?_
  refine jw_ifnonnull (tgt := 38) (pc' := 6) rfl rfl (fun c_3 => ?_) (fun c_3 => ?_)
  · replace w := w.1 c_3
    refine jw_gen (ls' := [some (vR 92 r0), some (vI x1), none, none]) (st' := []) (And.intro (Or.inl rfl) (And.intro (Or.inl rfl) (trivial))) (trivial) ?_
    exact w_X3_cells_38 w
  · replace w := w.2 c_3
    refine jw_aload_n (pc' := 7) rfl rfl ?_
    refine jw_iload_n (pc' := 8) rfl rfl ?_
    refine jw_iload_n (pc' := 9) rfl rfl ?_
    obtain ⟨g_8, w⟩ := w
    refine jw_anew' (pc' := 12) (n := ixn x2) (k := 223) rfl rfl rfl rfl rfl rfl rfl (jtb_mem (c := 1) (i := 178) rfl) g_8.ix g_8.b (fun r_4 h_5 e_6 e_7 => ?_)
    replace w := w r_4 h_5 e_6 e_7
    obtain ⟨g_9, w⟩ := w
    refine jw_aast' (pc' := 13) rfl rfl rfl rfl rfl rfl g_1 g_9 (fun h_10 e_11 => ?_)
    replace w := w h_10 e_11
    refine jw_iconst (pc' := 14) (x := (0 : Int32)) rfl rfl ?_
    refine jw_istore_n (pc' := 15) (ls' := [some (vR 92 r0), some (vI x1), some (vI x2), some (vI (0 : Int32))]) rfl (by decide) rfl ?_
    obtain ⟨n, w⟩ := w
    exact l_X3_cells_15 n _ _ _ _ _ w
def T_X3_cells (D : JD) (d : Nat) (Q : JO → JH → Prop) (r0 : Nat) (x1 : Int32) (x2 : Int32) (h : JH) : Prop := W_X3_cells_0 D d Q r0 x1 x2 h
theorem t_X3_cells {D : JD} {d : Nat} {Q : JO → JH → Prop} {r0 : Nat} {x1 : Int32} {x2 : Int32} {h : JH} (w : T_X3_cells D d Q r0 x1 x2 h) : cX3_cells D (d + 1) r0 x1 x2 h Q := by
  unfold T_X3_cells at w
  unfold cX3_cells
  exact w_X3_cells_0 w
def W_X3_tuple_34 (D : JD) (d : Nat) (Q : JO → JH → Prop) (K2 : Nat → Int32 → Int32 → JH → Prop) (r0 : Nat) (x1 : Int32) (x2 : Int32) (q0 : Nat) (s1 : Int32) (s2 : Int32) (h : JH) : Prop :=
  q0 ≠ 0 ∧ jin s1 (jln h q0) ∧ ∀ h_3 : JH, h_3 = wai h q0 (ixn s1) s2 → (K2 r0 x1 (x2 + (1 : Int32)) h_3)
theorem w_X3_tuple_34 {D : JD} {d : Nat} {Q : JO → JH → Prop} {K2 : Nat → Int32 → Int32 → JH → Prop} {r0 : Nat} {x1 : Int32} {x2 : Int32} {q0 : Nat} {s1 : Int32} {s2 : Int32} {h : JH} (hK2 : ∀ (r0 : Nat) (x1 : Int32) (x2 : Int32) (h : JH), K2 r0 x1 x2 h → JW D (d + 1) mX3_tuple 2 [some (vR 3 r0), some (vI x1), some (vI x2)] [] h Q) (w : W_X3_tuple_34 D d Q K2 r0 x1 x2 q0 s1 s2 h) : JW D (d + 1) mX3_tuple 34 [some (vR 3 r0), some (vI x1), some (vI x2)] [vI s2, vI s1, vR 128 q0] h Q := by
  unfold W_X3_tuple_34 at w
  obtain ⟨g_1, w⟩ := w
  obtain ⟨g_2, w⟩ := w
  refine jw_iast' (pc' := 35) rfl rfl rfl rfl rfl g_1 g_2 (fun h_3 e_4 => ?_)
  replace w := w h_3 e_4
  refine jw_iinc (pc' := 38) (y := x2 + (1 : Int32)) (ls' := [some (vR 3 r0), some (vI x1), some (vI (x2 + (1 : Int32)))]) rfl (by decide) rfl rfl rfl ?_
  refine jw_goto (pc' := 2) rfl rfl ?_
  exact hK2 _ _ _ _ w
def W_X3_tuple_2 (D : JD) (d : Nat) (Q : JO → JH → Prop) (K2 : Nat → Int32 → Int32 → JH → Prop) (r0 : Nat) (x1 : Int32) (x2 : Int32) (h : JH) : Prop :=
  ((3 : Int32) ≤ x2 → r0 ≠ 0 ∧ (∀ h_3 : JH, h_3 = wfi h 24 r0 ((jfi h 24 r0) + (1 : Int32)) → (Q (.inl none) h_3))) ∧ (¬ (3 : Int32) ≤ x2 → r0 ≠ 0 ∧ ((x1 ≤ x2 → W_X3_tuple_34 D d Q K2 r0 x1 x2 (jfr h 22 r0) (((3 : Int32) * (jfi h 24 r0)) + x2) (-1 : Int32) h) ∧ (¬ x1 ≤ x2 → (jfr h 25 r0) ≠ 0 ∧ jin x2 (jln h (jfr h 25 r0)) ∧ (W_X3_tuple_34 D d Q K2 r0 x1 x2 (jfr h 22 r0) (((3 : Int32) * (jfi h 24 r0)) + x2) (jai h (jfr h 25 r0) (ixn x2)) h))))
theorem w_X3_tuple_2 {D : JD} {d : Nat} {Q : JO → JH → Prop} {K2 : Nat → Int32 → Int32 → JH → Prop} {r0 : Nat} {x1 : Int32} {x2 : Int32} {h : JH} (hK2 : ∀ (r0 : Nat) (x1 : Int32) (x2 : Int32) (h : JH), K2 r0 x1 x2 h → JW D (d + 1) mX3_tuple 2 [some (vR 3 r0), some (vI x1), some (vI x2)] [] h Q) (w : W_X3_tuple_2 D d Q K2 r0 x1 x2 h) : JW D (d + 1) mX3_tuple 2 [some (vR 3 r0), some (vI x1), some (vI x2)] [] h Q := by
  unfold W_X3_tuple_2 at w
  refine jw_iload_n (pc' := 3) rfl rfl ?_
  refine jw_iconst (pc' := 4) (x := (3 : Int32)) rfl rfl ?_
  refine jw_icmp_ge (tgt := 41) (pc' := 7) rfl rfl (fun c_1 => ?_) (fun c_1 => ?_)
  · replace w := w.1 c_1
    refine jw_aload_n (pc' := 42) rfl rfl ?_
    refine jw_dup (pc' := 43) rfl rfl ?_
    obtain ⟨g_2, w⟩ := w
    refine jw_getI (pc' := 46) (F := 24) rfl rfl rfl rfl g_2 ?_
    refine jw_iconst (pc' := 47) (x := (1 : Int32)) rfl rfl ?_
    refine jw_iadd (pc' := 48) rfl ?_
    refine jw_putI' (pc' := 51) (F := 24) rfl rfl rfl (Or.inr rfl) (Or.inl rfl) rfl (rfl) (rfl) rfl g_2 (fun h_3 e_4 => ?_)
    replace w := w h_3 e_4
    exact jw_return rfl rfl w
  · replace w := w.2 c_1
    refine jw_aload_n (pc' := 8) rfl rfl ?_
    obtain ⟨g_5, w⟩ := w
    refine jw_getR (pc' := 11) (F := 22) (t' := 128) rfl rfl rfl rfl rfl g_5 ?_
    refine jw_iconst (pc' := 12) (x := (3 : Int32)) rfl rfl ?_
    refine jw_aload_n (pc' := 13) rfl rfl ?_
    refine jw_getI (pc' := 16) (F := 24) rfl rfl rfl rfl g_5 ?_
    refine jw_imul (pc' := 17) rfl ?_
    refine jw_iload_n (pc' := 18) rfl rfl ?_
    refine jw_iadd (pc' := 19) rfl ?_
    refine jw_iload_n (pc' := 20) rfl rfl ?_
    refine jw_iload_n (pc' := 21) rfl rfl ?_
    refine jw_icmp_ge (tgt := 33) (pc' := 24) rfl rfl (fun c_6 => ?_) (fun c_6 => ?_)
    · replace w := w.1 c_6
      refine jw_iconst (pc' := 34) (x := (-1 : Int32)) rfl rfl ?_
      exact w_X3_tuple_34 hK2 w
    · replace w := w.2 c_6
      refine jw_aload_n (pc' := 25) rfl rfl ?_
      refine jw_getR (pc' := 28) (F := 25) (t' := 129) rfl rfl rfl rfl rfl g_5 ?_
      refine jw_iload_n (pc' := 29) rfl rfl ?_
      obtain ⟨g_7, w⟩ := w
      obtain ⟨g_8, w⟩ := w
      refine jw_iald (pc' := 30) rfl rfl rfl rfl g_7 g_8.ix g_8.2 ?_
      refine jw_goto (pc' := 34) rfl rfl ?_
      exact w_X3_tuple_34 hK2 w
def L_X3_tuple_2 (D : JD) (d : Nat) (Q : JO → JH → Prop) : Nat → Nat → Int32 → Int32 → JH → Prop
  | 0 => fun _ _ _ _ => False
  | n + 1 => fun r0 x1 x2 h => W_X3_tuple_2 D d Q (L_X3_tuple_2 D d Q n) r0 x1 x2 h
theorem l_X3_tuple_2 {D : JD} {d : Nat} {Q : JO → JH → Prop} : ∀ (n : Nat) (r0 : Nat) (x1 : Int32) (x2 : Int32) (h : JH), L_X3_tuple_2 D d Q n r0 x1 x2 h → JW D (d + 1) mX3_tuple 2 [some (vR 3 r0), some (vI x1), some (vI x2)] [] h Q := by
  intro n
  induction n with
  | zero => intro _ _ _ _ w; exact w.elim
  | succ n ih => intro _ _ _ h w; exact w_X3_tuple_2 ih w
def W_X3_tuple_0 (D : JD) (d : Nat) (Q : JO → JH → Prop) (r0 : Nat) (x1 : Int32) (h : JH) : Prop :=
  ∃ n, L_X3_tuple_2 D d Q n r0 x1 (0 : Int32) h
theorem w_X3_tuple_0 {D : JD} {d : Nat} {Q : JO → JH → Prop} {r0 : Nat} {x1 : Int32} {h : JH} (w : W_X3_tuple_0 D d Q r0 x1 h) : JW D (d + 1) mX3_tuple 0 [some (vR 3 r0), some (vI x1), none] [] h Q := by
  unfold W_X3_tuple_0 at w
  refine jw_iconst (pc' := 1) (x := (0 : Int32)) rfl rfl ?_
  refine jw_istore_n (pc' := 2) (ls' := [some (vR 3 r0), some (vI x1), some (vI (0 : Int32))]) rfl (by decide) rfl ?_
  obtain ⟨n, w⟩ := w
  exact l_X3_tuple_2 n _ _ _ _ w
def T_X3_tuple (D : JD) (d : Nat) (Q : JO → JH → Prop) (r0 : Nat) (x1 : Int32) (h : JH) : Prop := W_X3_tuple_0 D d Q r0 x1 h
theorem t_X3_tuple {D : JD} {d : Nat} {Q : JO → JH → Prop} {r0 : Nat} {x1 : Int32} {h : JH} (w : T_X3_tuple D d Q r0 x1 h) : cX3_tuple D (d + 1) r0 x1 h Q := by
  unfold T_X3_tuple at w
  unfold cX3_tuple
  exact w_X3_tuple_0 w
def W_X3_key_0 (D : JD) (d : Nat) (Q : JO → JH → Prop) (r0 : Nat) (x1 : Int32) (h : JH) : Prop :=
  r0 ≠ 0 ∧ (cX3_cells D d (jfr h 29 r0) x1 (8 : Int32) h (pR D h 76 (fun v_4 h_2 => Q (.inl (some (vR 76 v_4))) h_2) (jth Q)))
theorem w_X3_key_0 {D : JD} {d : Nat} {Q : JO → JH → Prop} {r0 : Nat} {x1 : Int32} {h : JH} (w : W_X3_key_0 D d Q r0 x1 h) : JW D (d + 1) mX3_key 0 [some (vR 3 r0), some (vI x1)] [] h Q := by
  unfold W_X3_key_0 at w
  refine jw_aload_n (pc' := 1) rfl rfl ?_
  obtain ⟨g_1, w⟩ := w
  refine jw_getR (pc' := 4) (F := 29) (t' := 133) rfl rfl rfl rfl rfl g_1 ?_
  refine jw_iload_n (pc' := 5) rfl rfl ?_
  refine jw_bipush (pc' := 7) (x := (8 : Int32)) rfl rfl ?_
  refine jw_cR (st := []) (sa := [vR 133 (jfr h 29 r0), vI x1, vI (8 : Int32)]) okX3_cells rfl rfl rfl rfl rfl rfl (jstp_static (sa := [vR 133 (jfr h 29 r0), vI x1, vI (8 : Int32)]) (st := []) rfl rfl sX3_cells okX3_cells rfl rfl) w (fun v_4 h_2 _ _ _ w => ?_)
  exact jw_areturn rfl rfl rfl rfl rfl w
def T_X3_key (D : JD) (d : Nat) (Q : JO → JH → Prop) (r0 : Nat) (x1 : Int32) (h : JH) : Prop := W_X3_key_0 D d Q r0 x1 h
theorem t_X3_key {D : JD} {d : Nat} {Q : JO → JH → Prop} {r0 : Nat} {x1 : Int32} {h : JH} (w : T_X3_key D d Q r0 x1 h) : cX3_key D (d + 1) r0 x1 h Q := by
  unfold T_X3_key at w
  unfold cX3_key
  exact w_X3_key_0 w
def W_X3_members_89 (D : JD) (d : Nat) (Q : JO → JH → Prop) (K89 : Nat → Nat → Int32 → JH → Prop) (r0 : Nat) (r2 : Nat) (x3 : Int32) (h : JH) : Prop :=
  r0 ≠ 0 ∧ (((jfi h 24 r0) ≤ x3 → Q (.inl none) h) ∧ (¬ (jfi h 24 r0) ≤ x3 → (jfr h 26 r0) ≠ 0 ∧ jin x3 (jln h (jfr h 26 r0)) ∧ ((jfr h 28 r0) ≠ 0 ∧ jin (jai h (jfr h 26 r0) (ixn x3)) (jln h (jfr h 28 r0)) ∧ (r2 ≠ 0 ∧ jin (jai h (jfr h 26 r0) (ixn x3)) (jln h r2) ∧ ((jfr h 27 r0) ≠ 0 ∧ jin ((jai h (jfr h 28 r0) (ixn (jai h (jfr h 26 r0) (ixn x3)))) + (jai h r2 (ixn (jai h (jfr h 26 r0) (ixn x3))))) (jln h (jfr h 27 r0)) ∧ ∀ h_11 : JH, h_11 = wai h (jfr h 27 r0) (ixn ((jai h (jfr h 28 r0) (ixn (jai h (jfr h 26 r0) (ixn x3)))) + (jai h r2 (ixn (jai h (jfr h 26 r0) (ixn x3)))))) x3 → (jin (jai h (jfr h 26 r0) (ixn x3)) (jln h_11 r2) ∧ (jin (jai h (jfr h 26 r0) (ixn x3)) (jln h_11 r2) ∧ ∀ h_15 : JH, h_15 = wai h_11 r2 (ixn (jai h (jfr h 26 r0) (ixn x3))) ((jai h_11 r2 (ixn (jai h (jfr h 26 r0) (ixn x3)))) + (1 : Int32)) → (K89 r0 r2 (x3 + (1 : Int32)) h_15))))))))
theorem w_X3_members_89 {D : JD} {d : Nat} {Q : JO → JH → Prop} {K89 : Nat → Nat → Int32 → JH → Prop} {r0 : Nat} {r2 : Nat} {x3 : Int32} {h : JH} (hK89 : ∀ (r0 : Nat) (r2 : Nat) (x3 : Int32) (h : JH), K89 r0 r2 x3 h → JW D (d + 1) mX3_members 89 [some (vR 3 r0), none, some (vR 68 r2), some (vI x3), none] [] h Q) (w : W_X3_members_89 D d Q K89 r0 r2 x3 h) : JW D (d + 1) mX3_members 89 [some (vR 3 r0), none, some (vR 68 r2), some (vI x3), none] [] h Q := by
  unfold W_X3_members_89 at w
  refine jw_iload_n (pc' := 90) rfl rfl ?_
  refine jw_aload_n (pc' := 91) rfl rfl ?_
  obtain ⟨g_1, w⟩ := w
  refine jw_getI (pc' := 94) (F := 24) rfl rfl rfl rfl g_1 ?_
  refine jw_icmp_ge (tgt := 137) (pc' := 97) rfl rfl (fun c_2 => ?_) (fun c_2 => ?_)
  · replace w := w.1 c_2
    exact jw_return rfl rfl w
  · replace w := w.2 c_2
    refine jw_aload_n (pc' := 98) rfl rfl ?_
    refine jw_getR (pc' := 101) (F := 26) (t' := 130) rfl rfl rfl rfl rfl g_1 ?_
    refine jw_iload_n (pc' := 102) rfl rfl ?_
    obtain ⟨g_3, w⟩ := w
    obtain ⟨g_4, w⟩ := w
    refine jw_iald (pc' := 103) rfl rfl rfl rfl g_3 g_4.ix g_4.2 ?_
    refine jw_istore (pc' := 105) (ls' := [some (vR 3 r0), none, some (vR 68 r2), some (vI x3), some (vI (jai h (jfr h 26 r0) (ixn x3)))]) rfl (by decide) rfl ?_
    refine jw_aload_n (pc' := 106) rfl rfl ?_
    refine jw_getR (pc' := 109) (F := 27) (t' := 131) rfl rfl rfl rfl rfl g_1 ?_
    refine jw_aload_n (pc' := 110) rfl rfl ?_
    refine jw_getR (pc' := 113) (F := 28) (t' := 132) rfl rfl rfl rfl rfl g_1 ?_
    refine jw_iload (pc' := 115) rfl rfl ?_
    obtain ⟨g_5, w⟩ := w
    obtain ⟨g_6, w⟩ := w
    refine jw_iald (pc' := 116) rfl rfl rfl rfl g_5 g_6.ix g_6.2 ?_
    refine jw_aload_n (pc' := 117) rfl rfl ?_
    refine jw_iload (pc' := 119) rfl rfl ?_
    obtain ⟨g_7, w⟩ := w
    obtain ⟨g_8, w⟩ := w
    refine jw_iald (pc' := 120) rfl rfl rfl rfl g_7 g_8.ix g_8.2 ?_
    refine jw_iadd (pc' := 121) rfl ?_
    refine jw_iload_n (pc' := 122) rfl rfl ?_
    obtain ⟨g_9, w⟩ := w
    obtain ⟨g_10, w⟩ := w
    refine jw_iast' (pc' := 123) rfl rfl rfl rfl rfl g_9 g_10 (fun h_11 e_12 => ?_)
    replace w := w h_11 e_12
    refine jw_aload_n (pc' := 124) rfl rfl ?_
    refine jw_iload (pc' := 126) rfl rfl ?_
    refine jw_dup2 (pc' := 127) rfl rfl rfl ?_
    obtain ⟨g_13, w⟩ := w
    refine jw_iald (pc' := 128) rfl rfl rfl rfl g_7 g_13.ix g_13.2 ?_
    refine jw_iconst (pc' := 129) (x := (1 : Int32)) rfl rfl ?_
    refine jw_iadd (pc' := 130) rfl ?_
    obtain ⟨g_14, w⟩ := w
    refine jw_iast' (pc' := 131) rfl rfl rfl rfl rfl g_7 g_14 (fun h_15 e_16 => ?_)
    replace w := w h_15 e_16
    refine jw_iinc (pc' := 134) (y := x3 + (1 : Int32)) (ls' := [some (vR 3 r0), none, some (vR 68 r2), some (vI (x3 + (1 : Int32))), some (vI (jai h (jfr h 26 r0) (ixn x3)))]) rfl (by decide) rfl rfl rfl ?_
    refine jw_goto (pc' := 89) rfl rfl ?_
    refine jw_gen (ls' := [some (vR 3 r0), none, some (vR 68 r2), some (vI (x3 + (1 : Int32))), none]) (st' := []) (And.intro (Or.inl rfl) (And.intro (Or.inl rfl) (And.intro (Or.inl rfl) (trivial)))) (trivial) ?_
    exact hK89 _ _ _ _ w
def L_X3_members_89 (D : JD) (d : Nat) (Q : JO → JH → Prop) : Nat → Nat → Nat → Int32 → JH → Prop
  | 0 => fun _ _ _ _ => False
  | n + 1 => fun r0 r2 x3 h => W_X3_members_89 D d Q (L_X3_members_89 D d Q n) r0 r2 x3 h
theorem l_X3_members_89 {D : JD} {d : Nat} {Q : JO → JH → Prop} : ∀ (n : Nat) (r0 : Nat) (r2 : Nat) (x3 : Int32) (h : JH), L_X3_members_89 D d Q n r0 r2 x3 h → JW D (d + 1) mX3_members 89 [some (vR 3 r0), none, some (vR 68 r2), some (vI x3), none] [] h Q := by
  intro n
  induction n with
  | zero => intro _ _ _ _ w; exact w.elim
  | succ n ih => intro _ _ _ h w; exact w_X3_members_89 ih w
def W_X3_members_55 (D : JD) (d : Nat) (Q : JO → JH → Prop) (K55 : Nat → Int32 → Int32 → JH → Prop) (r0 : Nat) (x1 : Int32) (x2 : Int32) (h : JH) : Prop :=
  (x1 ≤ x2 → jsm x1 ∧ ∀ (r_2 : Nat) (h_3 : JH), r_2 = jsz h + 1 → h_3 = nwa h 68 (ixn x1) → (∃ n, L_X3_members_89 D d Q n r0 r_2 (0 : Int32) h_3)) ∧ (¬ x1 ≤ x2 → r0 ≠ 0 ∧ ((jfr h 28 r0) ≠ 0 ∧ jin (x2 + (1 : Int32)) (jln h (jfr h 28 r0)) ∧ (jin x2 (jln h (jfr h 28 r0)) ∧ (jin (x2 + (1 : Int32)) (jln h (jfr h 28 r0)) ∧ ∀ h_12 : JH, h_12 = wai h (jfr h 28 r0) (ixn (x2 + (1 : Int32))) ((jai h (jfr h 28 r0) (ixn (x2 + (1 : Int32)))) + (jai h (jfr h 28 r0) (ixn x2))) → (K55 r0 x1 (x2 + (1 : Int32)) h_12)))))
theorem w_X3_members_55 {D : JD} {d : Nat} {Q : JO → JH → Prop} {K55 : Nat → Int32 → Int32 → JH → Prop} {r0 : Nat} {x1 : Int32} {x2 : Int32} {h : JH} (hK55 : ∀ (r0 : Nat) (x1 : Int32) (x2 : Int32) (h : JH), K55 r0 x1 x2 h → JW D (d + 1) mX3_members 55 [some (vR 3 r0), some (vI x1), some (vI x2), none, none] [] h Q) (w : W_X3_members_55 D d Q K55 r0 x1 x2 h) : JW D (d + 1) mX3_members 55 [some (vR 3 r0), some (vI x1), some (vI x2), none, none] [] h Q := by
  unfold W_X3_members_55 at w
  refine jw_iload_n (pc' := 56) rfl rfl ?_
  refine jw_iload_n (pc' := 57) rfl rfl ?_
  refine jw_icmp_ge (tgt := 83) (pc' := 60) rfl rfl (fun c_1 => ?_) (fun c_1 => ?_)
  · replace w := w.1 c_1
    refine jw_iload_n (pc' := 84) rfl rfl ?_
    obtain ⟨g_6, w⟩ := w
    refine jw_newa' (pc' := 86) (n := ixn x1) (k := 68) rfl rfl rfl rfl rfl rfl (lw_g (jtb_mem (c := 2) (i := 11) rfl) rfl) g_6.ix g_6.b4 (fun r_2 h_3 e_4 e_5 => ?_)
    replace w := w r_2 h_3 e_4 e_5
    refine jw_astore_n (pc' := 87) (ls' := [some (vR 3 r0), some (vI x1), some (vR 68 r_2), none, none]) rfl (by decide) rfl ?_
    refine jw_iconst (pc' := 88) (x := (0 : Int32)) rfl rfl ?_
    refine jw_istore_n (pc' := 89) (ls' := [some (vR 3 r0), some (vI x1), some (vR 68 r_2), some (vI (0 : Int32)), none]) rfl (by decide) rfl ?_
    refine jw_gen (ls' := [some (vR 3 r0), none, some (vR 68 r_2), some (vI (0 : Int32)), none]) (st' := []) (And.intro (Or.inl rfl) (And.intro (Or.inl rfl) (And.intro (Or.inl rfl) (trivial)))) (trivial) ?_
    obtain ⟨n, w⟩ := w
    exact l_X3_members_89 n _ _ _ _ w
  · replace w := w.2 c_1
    refine jw_aload_n (pc' := 61) rfl rfl ?_
    obtain ⟨g_7, w⟩ := w
    refine jw_getR (pc' := 64) (F := 28) (t' := 132) rfl rfl rfl rfl rfl g_7 ?_
    refine jw_iload_n (pc' := 65) rfl rfl ?_
    refine jw_iconst (pc' := 66) (x := (1 : Int32)) rfl rfl ?_
    refine jw_iadd (pc' := 67) rfl ?_
    refine jw_dup2 (pc' := 68) rfl rfl rfl ?_
    obtain ⟨g_8, w⟩ := w
    obtain ⟨g_9, w⟩ := w
    refine jw_iald (pc' := 69) rfl rfl rfl rfl g_8 g_9.ix g_9.2 ?_
    refine jw_aload_n (pc' := 70) rfl rfl ?_
    refine jw_getR (pc' := 73) (F := 28) (t' := 132) rfl rfl rfl rfl rfl g_7 ?_
    refine jw_iload_n (pc' := 74) rfl rfl ?_
    obtain ⟨g_10, w⟩ := w
    refine jw_iald (pc' := 75) rfl rfl rfl rfl g_8 g_10.ix g_10.2 ?_
    refine jw_iadd (pc' := 76) rfl ?_
    obtain ⟨g_11, w⟩ := w
    refine jw_iast' (pc' := 77) rfl rfl rfl rfl rfl g_8 g_11 (fun h_12 e_13 => ?_)
    replace w := w h_12 e_13
    refine jw_iinc (pc' := 80) (y := x2 + (1 : Int32)) (ls' := [some (vR 3 r0), some (vI x1), some (vI (x2 + (1 : Int32))), none, none]) rfl (by decide) rfl rfl rfl ?_
    refine jw_goto (pc' := 55) rfl rfl ?_
    exact hK55 _ _ _ _ w
def L_X3_members_55 (D : JD) (d : Nat) (Q : JO → JH → Prop) : Nat → Nat → Int32 → Int32 → JH → Prop
  | 0 => fun _ _ _ _ => False
  | n + 1 => fun r0 x1 x2 h => W_X3_members_55 D d Q (L_X3_members_55 D d Q n) r0 x1 x2 h
theorem l_X3_members_55 {D : JD} {d : Nat} {Q : JO → JH → Prop} : ∀ (n : Nat) (r0 : Nat) (x1 : Int32) (x2 : Int32) (h : JH), L_X3_members_55 D d Q n r0 x1 x2 h → JW D (d + 1) mX3_members 55 [some (vR 3 r0), some (vI x1), some (vI x2), none, none] [] h Q := by
  intro n
  induction n with
  | zero => intro _ _ _ _ w; exact w.elim
  | succ n ih => intro _ _ _ h w; exact w_X3_members_55 ih w
def W_X3_members_22 (D : JD) (d : Nat) (Q : JO → JH → Prop) (K22 : Nat → Int32 → Int32 → JH → Prop) (r0 : Nat) (x1 : Int32) (x2 : Int32) (h : JH) : Prop :=
  r0 ≠ 0 ∧ (((jfi h 24 r0) ≤ x2 → ∃ n, L_X3_members_55 D d Q n r0 x1 (0 : Int32) h) ∧ (¬ (jfi h 24 r0) ≤ x2 → (jfr h 26 r0) ≠ 0 ∧ jin x2 (jln h (jfr h 26 r0)) ∧ ((jfr h 28 r0) ≠ 0 ∧ jin ((jai h (jfr h 26 r0) (ixn x2)) + (1 : Int32)) (jln h (jfr h 28 r0)) ∧ (jin ((jai h (jfr h 26 r0) (ixn x2)) + (1 : Int32)) (jln h (jfr h 28 r0)) ∧ ∀ h_8 : JH, h_8 = wai h (jfr h 28 r0) (ixn ((jai h (jfr h 26 r0) (ixn x2)) + (1 : Int32))) ((jai h (jfr h 28 r0) (ixn ((jai h (jfr h 26 r0) (ixn x2)) + (1 : Int32)))) + (1 : Int32)) → (K22 r0 x1 (x2 + (1 : Int32)) h_8)))))
theorem w_X3_members_22 {D : JD} {d : Nat} {Q : JO → JH → Prop} {K22 : Nat → Int32 → Int32 → JH → Prop} {r0 : Nat} {x1 : Int32} {x2 : Int32} {h : JH} (hK22 : ∀ (r0 : Nat) (x1 : Int32) (x2 : Int32) (h : JH), K22 r0 x1 x2 h → JW D (d + 1) mX3_members 22 [some (vR 3 r0), some (vI x1), some (vI x2), none, none] [] h Q) (w : W_X3_members_22 D d Q K22 r0 x1 x2 h) : JW D (d + 1) mX3_members 22 [some (vR 3 r0), some (vI x1), some (vI x2), none, none] [] h Q := by
  unfold W_X3_members_22 at w
  refine jw_iload_n (pc' := 23) rfl rfl ?_
  refine jw_aload_n (pc' := 24) rfl rfl ?_
  obtain ⟨g_1, w⟩ := w
  refine jw_getI (pc' := 27) (F := 24) rfl rfl rfl rfl g_1 ?_
  refine jw_icmp_ge (tgt := 53) (pc' := 30) rfl rfl (fun c_2 => ?_) (fun c_2 => ?_)
  · replace w := w.1 c_2
    refine jw_iconst (pc' := 54) (x := (0 : Int32)) rfl rfl ?_
    refine jw_istore_n (pc' := 55) (ls' := [some (vR 3 r0), some (vI x1), some (vI (0 : Int32)), none, none]) rfl (by decide) rfl ?_
    obtain ⟨n, w⟩ := w
    exact l_X3_members_55 n _ _ _ _ w
  · replace w := w.2 c_2
    refine jw_aload_n (pc' := 31) rfl rfl ?_
    refine jw_getR (pc' := 34) (F := 28) (t' := 132) rfl rfl rfl rfl rfl g_1 ?_
    refine jw_aload_n (pc' := 35) rfl rfl ?_
    refine jw_getR (pc' := 38) (F := 26) (t' := 130) rfl rfl rfl rfl rfl g_1 ?_
    refine jw_iload_n (pc' := 39) rfl rfl ?_
    obtain ⟨g_3, w⟩ := w
    obtain ⟨g_4, w⟩ := w
    refine jw_iald (pc' := 40) rfl rfl rfl rfl g_3 g_4.ix g_4.2 ?_
    refine jw_iconst (pc' := 41) (x := (1 : Int32)) rfl rfl ?_
    refine jw_iadd (pc' := 42) rfl ?_
    refine jw_dup2 (pc' := 43) rfl rfl rfl ?_
    obtain ⟨g_5, w⟩ := w
    obtain ⟨g_6, w⟩ := w
    refine jw_iald (pc' := 44) rfl rfl rfl rfl g_5 g_6.ix g_6.2 ?_
    refine jw_iconst (pc' := 45) (x := (1 : Int32)) rfl rfl ?_
    refine jw_iadd (pc' := 46) rfl ?_
    obtain ⟨g_7, w⟩ := w
    refine jw_iast' (pc' := 47) rfl rfl rfl rfl rfl g_5 g_7 (fun h_8 e_9 => ?_)
    replace w := w h_8 e_9
    refine jw_iinc (pc' := 50) (y := x2 + (1 : Int32)) (ls' := [some (vR 3 r0), some (vI x1), some (vI (x2 + (1 : Int32))), none, none]) rfl (by decide) rfl rfl rfl ?_
    refine jw_goto (pc' := 22) rfl rfl ?_
    exact hK22 _ _ _ _ w
def L_X3_members_22 (D : JD) (d : Nat) (Q : JO → JH → Prop) : Nat → Nat → Int32 → Int32 → JH → Prop
  | 0 => fun _ _ _ _ => False
  | n + 1 => fun r0 x1 x2 h => W_X3_members_22 D d Q (L_X3_members_22 D d Q n) r0 x1 x2 h
theorem l_X3_members_22 {D : JD} {d : Nat} {Q : JO → JH → Prop} : ∀ (n : Nat) (r0 : Nat) (x1 : Int32) (x2 : Int32) (h : JH), L_X3_members_22 D d Q n r0 x1 x2 h → JW D (d + 1) mX3_members 22 [some (vR 3 r0), some (vI x1), some (vI x2), none, none] [] h Q := by
  intro n
  induction n with
  | zero => intro _ _ _ _ w; exact w.elim
  | succ n ih => intro _ _ _ h w; exact w_X3_members_22 ih w
def W_X3_members_2 (D : JD) (d : Nat) (Q : JO → JH → Prop) (K2 : Nat → Int32 → Int32 → JH → Prop) (r0 : Nat) (x1 : Int32) (x2 : Int32) (h : JH) : Prop :=
  (x1 < x2 → ∃ n, L_X3_members_22 D d Q n r0 x1 (0 : Int32) h) ∧ (¬ x1 < x2 → r0 ≠ 0 ∧ ((jfr h 28 r0) ≠ 0 ∧ jin x2 (jln h (jfr h 28 r0)) ∧ ∀ h_5 : JH, h_5 = wai h (jfr h 28 r0) (ixn x2) (0 : Int32) → (K2 r0 x1 (x2 + (1 : Int32)) h_5)))
theorem w_X3_members_2 {D : JD} {d : Nat} {Q : JO → JH → Prop} {K2 : Nat → Int32 → Int32 → JH → Prop} {r0 : Nat} {x1 : Int32} {x2 : Int32} {h : JH} (hK2 : ∀ (r0 : Nat) (x1 : Int32) (x2 : Int32) (h : JH), K2 r0 x1 x2 h → JW D (d + 1) mX3_members 2 [some (vR 3 r0), some (vI x1), some (vI x2), none, none] [] h Q) (w : W_X3_members_2 D d Q K2 r0 x1 x2 h) : JW D (d + 1) mX3_members 2 [some (vR 3 r0), some (vI x1), some (vI x2), none, none] [] h Q := by
  unfold W_X3_members_2 at w
  refine jw_iload_n (pc' := 3) rfl rfl ?_
  refine jw_iload_n (pc' := 4) rfl rfl ?_
  refine jw_icmp_gt (tgt := 20) (pc' := 7) rfl rfl (fun c_1 => ?_) (fun c_1 => ?_)
  · replace w := w.1 c_1
    refine jw_iconst (pc' := 21) (x := (0 : Int32)) rfl rfl ?_
    refine jw_istore_n (pc' := 22) (ls' := [some (vR 3 r0), some (vI x1), some (vI (0 : Int32)), none, none]) rfl (by decide) rfl ?_
    obtain ⟨n, w⟩ := w
    exact l_X3_members_22 n _ _ _ _ w
  · replace w := w.2 c_1
    refine jw_aload_n (pc' := 8) rfl rfl ?_
    obtain ⟨g_2, w⟩ := w
    refine jw_getR (pc' := 11) (F := 28) (t' := 132) rfl rfl rfl rfl rfl g_2 ?_
    refine jw_iload_n (pc' := 12) rfl rfl ?_
    refine jw_iconst (pc' := 13) (x := (0 : Int32)) rfl rfl ?_
    obtain ⟨g_3, w⟩ := w
    obtain ⟨g_4, w⟩ := w
    refine jw_iast' (pc' := 14) rfl rfl rfl rfl rfl g_3 g_4 (fun h_5 e_6 => ?_)
    replace w := w h_5 e_6
    refine jw_iinc (pc' := 17) (y := x2 + (1 : Int32)) (ls' := [some (vR 3 r0), some (vI x1), some (vI (x2 + (1 : Int32))), none, none]) rfl (by decide) rfl rfl rfl ?_
    refine jw_goto (pc' := 2) rfl rfl ?_
    exact hK2 _ _ _ _ w
def L_X3_members_2 (D : JD) (d : Nat) (Q : JO → JH → Prop) : Nat → Nat → Int32 → Int32 → JH → Prop
  | 0 => fun _ _ _ _ => False
  | n + 1 => fun r0 x1 x2 h => W_X3_members_2 D d Q (L_X3_members_2 D d Q n) r0 x1 x2 h
theorem l_X3_members_2 {D : JD} {d : Nat} {Q : JO → JH → Prop} : ∀ (n : Nat) (r0 : Nat) (x1 : Int32) (x2 : Int32) (h : JH), L_X3_members_2 D d Q n r0 x1 x2 h → JW D (d + 1) mX3_members 2 [some (vR 3 r0), some (vI x1), some (vI x2), none, none] [] h Q := by
  intro n
  induction n with
  | zero => intro _ _ _ _ w; exact w.elim
  | succ n ih => intro _ _ _ h w; exact w_X3_members_2 ih w
def W_X3_members_0 (D : JD) (d : Nat) (Q : JO → JH → Prop) (r0 : Nat) (x1 : Int32) (h : JH) : Prop :=
  ∃ n, L_X3_members_2 D d Q n r0 x1 (0 : Int32) h
theorem w_X3_members_0 {D : JD} {d : Nat} {Q : JO → JH → Prop} {r0 : Nat} {x1 : Int32} {h : JH} (w : W_X3_members_0 D d Q r0 x1 h) : JW D (d + 1) mX3_members 0 [some (vR 3 r0), some (vI x1), none, none, none] [] h Q := by
  unfold W_X3_members_0 at w
  refine jw_iconst (pc' := 1) (x := (0 : Int32)) rfl rfl ?_
  refine jw_istore_n (pc' := 2) (ls' := [some (vR 3 r0), some (vI x1), some (vI (0 : Int32)), none, none]) rfl (by decide) rfl ?_
  obtain ⟨n, w⟩ := w
  exact l_X3_members_2 n _ _ _ _ w
def T_X3_members (D : JD) (d : Nat) (Q : JO → JH → Prop) (r0 : Nat) (x1 : Int32) (h : JH) : Prop := W_X3_members_0 D d Q r0 x1 h
theorem t_X3_members {D : JD} {d : Nat} {Q : JO → JH → Prop} {r0 : Nat} {x1 : Int32} {h : JH} (w : T_X3_members D d Q r0 x1 h) : cX3_members D (d + 1) r0 x1 h Q := by
  unfold T_X3_members at w
  unfold cX3_members
  exact w_X3_members_0 w
def W_X3_group_100 (D : JD) (d : Nat) (Q : JO → JH → Prop) (h : JH) : Prop :=
  Q (.inl none) h
theorem w_X3_group_100 {D : JD} {d : Nat} {Q : JO → JH → Prop} {h : JH} (w : W_X3_group_100 D d Q h) : JW D (d + 1) mX3_group 100 [none, none, none] [] h Q := by
  unfold W_X3_group_100 at w
  exact jw_return rfl rfl w
def W_X3_group_79 (D : JD) (d : Nat) (Q : JO → JH → Prop) (K79 : Nat → Int32 → JH → Prop) (r0 : Nat) (x2 : Int32) (h : JH) : Prop :=
  ((3 : Int32) ≤ x2 → W_X3_group_100 D d Q h) ∧ (¬ (3 : Int32) ≤ x2 → r0 ≠ 0 ∧ ((jfr h 23 r0) ≠ 0 ∧ ((jfr h 56 (jfr h 23 r0)) ≠ 0 ∧ jin x2 (jln h (jfr h 56 (jfr h 23 r0))) ∧ ∀ h_6 : JH, h_6 = war h (jfr h 56 (jfr h 23 r0)) (ixn x2) 0 → (K79 r0 (x2 + (1 : Int32)) h_6))))
theorem w_X3_group_79 {D : JD} {d : Nat} {Q : JO → JH → Prop} {K79 : Nat → Int32 → JH → Prop} {r0 : Nat} {x2 : Int32} {h : JH} (hK79 : ∀ (r0 : Nat) (x2 : Int32) (h : JH), K79 r0 x2 h → JW D (d + 1) mX3_group 79 [some (vR 3 r0), none, some (vI x2)] [] h Q) (w : W_X3_group_79 D d Q K79 r0 x2 h) : JW D (d + 1) mX3_group 79 [some (vR 3 r0), none, some (vI x2)] [] h Q := by
  unfold W_X3_group_79 at w
  refine jw_iload_n (pc' := 80) rfl rfl ?_
  refine jw_iconst (pc' := 81) (x := (3 : Int32)) rfl rfl ?_
  refine jw_icmp_ge (tgt := 100) (pc' := 84) rfl rfl (fun c_1 => ?_) (fun c_1 => ?_)
  · replace w := w.1 c_1
    refine jw_gen (ls' := [none, none, none]) (st' := []) (trivial) (trivial) ?_
    exact w_X3_group_100 w
  · replace w := w.2 c_1
    refine jw_aload_n (pc' := 85) rfl rfl ?_
    obtain ⟨g_2, w⟩ := w
    refine jw_getR (pc' := 88) (F := 23) (t' := 6) rfl rfl rfl rfl rfl g_2 ?_
    obtain ⟨g_3, w⟩ := w
    refine jw_getR (pc' := 91) (F := 56) (t' := 142) rfl rfl rfl rfl rfl g_3 ?_
    refine jw_iload_n (pc' := 92) rfl rfl ?_
    refine jw_null (pc' := 93) (t := 76) rfl ?_
    obtain ⟨g_4, w⟩ := w
    obtain ⟨g_5, w⟩ := w
    refine jw_aast' (pc' := 94) rfl rfl rfl rfl rfl rfl g_4 g_5 (fun h_6 e_7 => ?_)
    replace w := w h_6 e_7
    refine jw_iinc (pc' := 97) (y := x2 + (1 : Int32)) (ls' := [some (vR 3 r0), none, some (vI (x2 + (1 : Int32)))]) rfl (by decide) rfl rfl rfl ?_
    refine jw_goto (pc' := 79) rfl rfl ?_
    exact hK79 _ _ _ w
def L_X3_group_79 (D : JD) (d : Nat) (Q : JO → JH → Prop) : Nat → Nat → Int32 → JH → Prop
  | 0 => fun _ _ _ => False
  | n + 1 => fun r0 x2 h => W_X3_group_79 D d Q (L_X3_group_79 D d Q n) r0 x2 h
theorem l_X3_group_79 {D : JD} {d : Nat} {Q : JO → JH → Prop} : ∀ (n : Nat) (r0 : Nat) (x2 : Int32) (h : JH), L_X3_group_79 D d Q n r0 x2 h → JW D (d + 1) mX3_group 79 [some (vR 3 r0), none, some (vI x2)] [] h Q := by
  intro n
  induction n with
  | zero => intro _ _ _ w; exact w.elim
  | succ n ih => intro _ _ h w; exact w_X3_group_79 ih w
def W_X3_group_0 (D : JD) (d : Nat) (Q : JO → JH → Prop) (r0 : Nat) (x1 : Int32) (h : JH) : Prop :=
  r0 ≠ 0 ∧ ((jfr h 28 r0) ≠ 0 ∧ jin (x1 + (1 : Int32)) (jln h (jfr h 28 r0)) ∧ (jin x1 (jln h (jfr h 28 r0)) ∧ ((jfr h 23 r0) ≠ 0 ∧ ∀ h_6 : JH, h_6 = wfi h 58 (jfr h 23 r0) ((jai h (jfr h 28 r0) (ixn (x1 + (1 : Int32)))) - (jai h (jfr h 28 r0) (ixn x1))) → ((jfr h_6 23 r0) ≠ 0 ∧ ∀ h_9 : JH, h_9 = wfr h_6 57 (jfr h_6 23 r0) (jfr h_6 27 r0) → ((jfr h_9 28 r0) ≠ 0 ∧ jin x1 (jln h_9 (jfr h_9 28 r0)) ∧ ((jfr h_9 23 r0) ≠ 0 ∧ ∀ h_14 : JH, h_14 = wfi h_9 59 (jfr h_9 23 r0) (jai h_9 (jfr h_9 28 r0) (ixn x1)) → ((jfr h_14 23 r0) ≠ 0 ∧ (((jfi h_14 58 (jfr h_14 23 r0)) ≤ 0 → ∃ n, L_X3_group_79 D d Q n r0 (0 : Int32) h_14) ∧ (¬ (jfi h_14 58 (jfr h_14 23 r0)) ≤ 0 → (jfr h_14 28 r0) ≠ 0 ∧ jin x1 (jln h_14 (jfr h_14 28 r0)) ∧ ((jfr h_14 27 r0) ≠ 0 ∧ jin (jai h_14 (jfr h_14 28 r0) (ixn x1)) (jln h_14 (jfr h_14 27 r0)) ∧ (cX6_take D d (jfr h_14 23 r0) (jai h_14 (jfr h_14 27 r0) (ixn (jai h_14 (jfr h_14 28 r0) (ixn x1)))) h_14 (pV D h_14 (fun h_22 => W_X3_group_100 D d Q h_22) (jth Q)))))))))))))
theorem w_X3_group_0 {D : JD} {d : Nat} {Q : JO → JH → Prop} {r0 : Nat} {x1 : Int32} {h : JH} (w : W_X3_group_0 D d Q r0 x1 h) : JW D (d + 1) mX3_group 0 [some (vR 3 r0), some (vI x1), none] [] h Q := by
  unfold W_X3_group_0 at w
  refine jw_aload_n (pc' := 1) rfl rfl ?_
  obtain ⟨g_1, w⟩ := w
  refine jw_getR (pc' := 4) (F := 23) (t' := 6) rfl rfl rfl rfl rfl g_1 ?_
  refine jw_aload_n (pc' := 5) rfl rfl ?_
  refine jw_getR (pc' := 8) (F := 28) (t' := 132) rfl rfl rfl rfl rfl g_1 ?_
  refine jw_iload_n (pc' := 9) rfl rfl ?_
  refine jw_iconst (pc' := 10) (x := (1 : Int32)) rfl rfl ?_
  refine jw_iadd (pc' := 11) rfl ?_
  obtain ⟨g_2, w⟩ := w
  obtain ⟨g_3, w⟩ := w
  refine jw_iald (pc' := 12) rfl rfl rfl rfl g_2 g_3.ix g_3.2 ?_
  refine jw_aload_n (pc' := 13) rfl rfl ?_
  refine jw_getR (pc' := 16) (F := 28) (t' := 132) rfl rfl rfl rfl rfl g_1 ?_
  refine jw_iload_n (pc' := 17) rfl rfl ?_
  obtain ⟨g_4, w⟩ := w
  refine jw_iald (pc' := 18) rfl rfl rfl rfl g_2 g_4.ix g_4.2 ?_
  refine jw_isub (pc' := 19) rfl ?_
  obtain ⟨g_5, w⟩ := w
  refine jw_putI' (pc' := 22) (F := 58) rfl rfl rfl (Or.inr rfl) (Or.inl rfl) rfl (rfl) (rfl) rfl g_5 (fun h_6 e_7 => ?_)
  replace w := w h_6 e_7
  refine jw_aload_n (pc' := 23) rfl rfl ?_
  refine jw_getR (pc' := 26) (F := 23) (t' := 6) rfl rfl rfl rfl rfl g_1 ?_
  refine jw_aload_n (pc' := 27) rfl rfl ?_
  refine jw_getR (pc' := 30) (F := 27) (t' := 131) rfl rfl rfl rfl rfl g_1 ?_
  obtain ⟨g_8, w⟩ := w
  refine jw_putR' (pc' := 33) (F := 57) rfl rfl rfl (Or.inr rfl) (Or.inl rfl) rfl rfl rfl g_8 (fun h_9 e_10 => ?_)
  replace w := w h_9 e_10
  refine jw_aload_n (pc' := 34) rfl rfl ?_
  refine jw_getR (pc' := 37) (F := 23) (t' := 6) rfl rfl rfl rfl rfl g_1 ?_
  refine jw_aload_n (pc' := 38) rfl rfl ?_
  refine jw_getR (pc' := 41) (F := 28) (t' := 132) rfl rfl rfl rfl rfl g_1 ?_
  refine jw_iload_n (pc' := 42) rfl rfl ?_
  obtain ⟨g_11, w⟩ := w
  obtain ⟨g_12, w⟩ := w
  refine jw_iald (pc' := 43) rfl rfl rfl rfl g_11 g_12.ix g_12.2 ?_
  obtain ⟨g_13, w⟩ := w
  refine jw_putI' (pc' := 46) (F := 59) rfl rfl rfl (Or.inr rfl) (Or.inl rfl) rfl (rfl) (rfl) rfl g_13 (fun h_14 e_15 => ?_)
  replace w := w h_14 e_15
  refine jw_aload_n (pc' := 47) rfl rfl ?_
  refine jw_getR (pc' := 50) (F := 23) (t' := 6) rfl rfl rfl rfl rfl g_1 ?_
  obtain ⟨g_16, w⟩ := w
  refine jw_getI (pc' := 53) (F := 58) rfl rfl rfl rfl g_16 ?_
  refine jw_if_le (tgt := 77) (pc' := 56) rfl rfl (fun c_17 => ?_) (fun c_17 => ?_)
  · replace w := w.1 c_17
    refine jw_iconst (pc' := 78) (x := (0 : Int32)) rfl rfl ?_
    refine jw_istore_n (pc' := 79) (ls' := [some (vR 3 r0), some (vI x1), some (vI (0 : Int32))]) rfl (by decide) rfl ?_
    refine jw_gen (ls' := [some (vR 3 r0), none, some (vI (0 : Int32))]) (st' := []) (And.intro (Or.inl rfl) (And.intro (Or.inl rfl) (trivial))) (trivial) ?_
    obtain ⟨n, w⟩ := w
    exact l_X3_group_79 n _ _ _ w
  · replace w := w.2 c_17
    refine jw_aload_n (pc' := 57) rfl rfl ?_
    refine jw_getR (pc' := 60) (F := 23) (t' := 6) rfl rfl rfl rfl rfl g_1 ?_
    refine jw_aload_n (pc' := 61) rfl rfl ?_
    refine jw_getR (pc' := 64) (F := 27) (t' := 131) rfl rfl rfl rfl rfl g_1 ?_
    refine jw_aload_n (pc' := 65) rfl rfl ?_
    refine jw_getR (pc' := 68) (F := 28) (t' := 132) rfl rfl rfl rfl rfl g_1 ?_
    refine jw_iload_n (pc' := 69) rfl rfl ?_
    obtain ⟨g_18, w⟩ := w
    obtain ⟨g_19, w⟩ := w
    refine jw_iald (pc' := 70) rfl rfl rfl rfl g_18 g_19.ix g_19.2 ?_
    obtain ⟨g_20, w⟩ := w
    obtain ⟨g_21, w⟩ := w
    refine jw_iald (pc' := 71) rfl rfl rfl rfl g_20 g_21.ix g_21.2 ?_
    refine jw_cV (st := []) (sa := [vR 6 (jfr h_14 23 r0), vI (jai h_14 (jfr h_14 27 r0) (ixn (jai h_14 (jfr h_14 28 r0) (ixn x1))))]) okX6_take rfl rfl rfl rfl rfl rfl (jstp_virtual (sa := [vI (jai h_14 (jfr h_14 27 r0) (ixn (jai h_14 (jfr h_14 28 r0) (ixn x1))))]) (st := []) (k := 0) rfl rfl sX6_take okX6_take g_16 (one6.k g_16) rfl rfl) w (fun h_22 _ _ w => ?_)
    refine jw_goto (pc' := 100) rfl rfl ?_
    refine jw_gen (ls' := [none, none, none]) (st' := []) (trivial) (trivial) ?_
    exact w_X3_group_100 w
def T_X3_group (D : JD) (d : Nat) (Q : JO → JH → Prop) (r0 : Nat) (x1 : Int32) (h : JH) : Prop := W_X3_group_0 D d Q r0 x1 h
theorem t_X3_group {D : JD} {d : Nat} {Q : JO → JH → Prop} {r0 : Nat} {x1 : Int32} {h : JH} (w : T_X3_group D d Q r0 x1 h) : cX3_group D (d + 1) r0 x1 h Q := by
  unfold T_X3_group at w
  unfold cX3_group
  exact w_X3_group_0 w
def W_X3_worked_0 (D : JD) (d : Nat) (Q : JO → JH → Prop) (r0 : Nat) (x1 : Int32) (h : JH) : Prop :=
  (¬ x1 = (300 : Int32) → r0 ≠ 0 ∧ (cX3_cells D d (jfr h 30 r0) x1 (24 : Int32) h (pR D h 76 (fun v_5 h_3 => Q (.inl (some (vR 76 v_5))) h_3) (jth Q)))) ∧ (x1 = (300 : Int32) → cX1_fault D d (jcs D 201) h (pR D h 9 (fun v_8 h_6 => v_8 ≠ 0 ∧ (Q (.inr v_8) h_6)) (jth Q)))
theorem w_X3_worked_0 {D : JD} {d : Nat} {Q : JO → JH → Prop} {r0 : Nat} {x1 : Int32} {h : JH} (w : W_X3_worked_0 D d Q r0 x1 h) : JW D (d + 1) mX3_worked 0 [some (vR 3 r0), some (vI x1)] [] h Q := by
  unfold W_X3_worked_0 at w
  refine jw_iload_n (pc' := 1) rfl rfl ?_
  refine jw_sipush (pc' := 4) (x := (300 : Int32)) rfl rfl ?_
  refine jw_icmp_ne (tgt := 13) (pc' := 7) rfl rfl (fun c_1 => ?_) (fun c_1 => ?_)
  · replace w := w.1 c_1
    refine jw_aload_n (pc' := 14) rfl rfl ?_
    obtain ⟨g_2, w⟩ := w
    refine jw_getR (pc' := 17) (F := 30) (t' := 134) rfl rfl rfl rfl rfl g_2 ?_
    refine jw_iload_n (pc' := 18) rfl rfl ?_
    refine jw_bipush (pc' := 20) (x := (24 : Int32)) rfl rfl ?_
    refine jw_cR (st := []) (sa := [vR 134 (jfr h 30 r0), vI x1, vI (24 : Int32)]) okX3_cells rfl rfl rfl rfl rfl rfl (jstp_static (sa := [vR 134 (jfr h 30 r0), vI x1, vI (24 : Int32)]) (st := []) rfl rfl sX3_cells okX3_cells rfl rfl) w (fun v_5 h_3 _ _ _ w => ?_)
    exact jw_areturn rfl rfl rfl rfl rfl w
  · replace w := w.2 c_1
    refine jw_ldcS (pc' := 9) rfl rfl rfl rfl ?_
    refine jw_cR (st := []) (sa := [vR 51 (jcs D 201)]) okX1_fault rfl rfl rfl rfl rfl rfl (jstp_static (sa := [vR 51 (jcs D 201)]) (st := []) rfl rfl sX1_fault okX1_fault rfl rfl) w (fun v_8 h_6 _ _ _ w => ?_)
    obtain ⟨g_9, w⟩ := w
    exact jw_athrow rfl rfl g_9 w
def T_X3_worked (D : JD) (d : Nat) (Q : JO → JH → Prop) (r0 : Nat) (x1 : Int32) (h : JH) : Prop := W_X3_worked_0 D d Q r0 x1 h
theorem t_X3_worked {D : JD} {d : Nat} {Q : JO → JH → Prop} {r0 : Nat} {x1 : Int32} {h : JH} (w : T_X3_worked D d Q r0 x1 h) : cX3_worked D (d + 1) r0 x1 h Q := by
  unfold T_X3_worked at w
  unfold cX3_worked
  exact w_X3_worked_0 w
def W_X3_row_106 (D : JD) (d : Nat) (Q : JO → JH → Prop) (K25 : Nat → Nat → Int32 → Nat → Int32 → JH → Prop) (r0 : Nat) (r1 : Nat) (x2 : Int32) (r3 : Nat) (x4 : Int32) (h : JH) : Prop :=
  K25 r0 r1 x2 r3 (x4 + (1 : Int32)) h
theorem w_X3_row_106 {D : JD} {d : Nat} {Q : JO → JH → Prop} {K25 : Nat → Nat → Int32 → Nat → Int32 → JH → Prop} {r0 : Nat} {r1 : Nat} {x2 : Int32} {r3 : Nat} {x4 : Int32} {h : JH} (hK25 : ∀ (r0 : Nat) (r1 : Nat) (x2 : Int32) (r3 : Nat) (x4 : Int32) (h : JH), K25 r0 r1 x2 r3 x4 h → JW D (d + 1) mX3_row 25 [some (vR 3 r0), some (vR 76 r1), some (vI x2), some (vR 113 r3), some (vI x4), none, none] [] h Q) (w : W_X3_row_106 D d Q K25 r0 r1 x2 r3 x4 h) : JW D (d + 1) mX3_row 106 [some (vR 3 r0), some (vR 76 r1), some (vI x2), some (vR 113 r3), some (vI x4), none, none] [] h Q := by
  unfold W_X3_row_106 at w
  refine jw_iinc (pc' := 109) (y := x4 + (1 : Int32)) (ls' := [some (vR 3 r0), some (vR 76 r1), some (vI x2), some (vR 113 r3), some (vI (x4 + (1 : Int32))), none, none]) rfl (by decide) rfl rfl rfl ?_
  refine jw_goto (pc' := 25) rfl rfl ?_
  exact hK25 _ _ _ _ _ _ w
def W_X3_row_25 (D : JD) (d : Nat) (Q : JO → JH → Prop) (K25 : Nat → Nat → Int32 → Nat → Int32 → JH → Prop) (r0 : Nat) (r1 : Nat) (x2 : Int32) (r3 : Nat) (x4 : Int32) (h : JH) : Prop :=
  (x2 ≤ x4 → r0 ≠ 0 ∧ (((jfi h 35 r0) ≤ (8000 : Int32) → r3 ≠ 0 ∧ (cX2_close D d r3 h (pV D h (fun h_5 => (jfr h_5 34 r0) ≠ 0 ∧ (cX7_end D d (jfr h_5 34 r0) h_5 (pV D h_5 (fun h_9 => Q (.inl none) h_9) (jth Q)))) (jth Q)))) ∧ (¬ (jfi h 35 r0) ≤ (8000 : Int32) → cX1_fault D d (jcs D 201) h (pR D h 9 (fun v_14 h_12 => v_14 ≠ 0 ∧ (Q (.inr v_14) h_12)) (jth Q))))) ∧ (¬ x2 ≤ x4 → r1 ≠ 0 ∧ jin x4 (jln h r1) ∧ ((jar h r1 (ixn x4)) ≠ 0 ∧ (cX14_isEmpty D d (jar h r1 (ixn x4)) h (pI D h (fun v_21 h_19 => (v_21 = 0 → r3 ≠ 0 ∧ (cX2_number D d r3 (0 : Int64) (4 : Int32) h_19 (pV D h_19 (fun h_24 => jin x4 (jln h_24 r1) ∧ (cX3_value D d (jar h_24 r1 (ixn x4)) r3 h_24 (pV D h_24 (fun h_28 => (jfr h_28 17 r3) ≠ 0 ∧ jin ((jfi h_19 18 r3) + (3 : Int32)) (jln h_28 (jfr h_28 17 r3)) ∧ ∀ h_33 : JH, h_33 = wai h_28 (jfr h_28 17 r3) (ixn ((jfi h_19 18 r3) + (3 : Int32))) ((Int32.toInt8 ((Int32.toInt8 (((jfi h_28 18 r3) - (jfi h_19 18 r3)) - (4 : Int32))).toInt32)).toInt32) → (r0 ≠ 0 ∧ (∀ h_36 : JH, h_36 = wfi h_33 35 r0 ((jfi h_33 35 r0) + (((jfi h_28 18 r3) - (jfi h_19 18 r3)) - (4 : Int32))) → (W_X3_row_106 D d Q K25 r0 r1 x2 r3 x4 h_36)))) (jth Q)))) (jth Q)))) ∧ (¬ v_21 = 0 → r3 ≠ 0 ∧ (cX2_number D d r3 (-1 : Int64) (4 : Int32) h_19 (pV D h_19 (fun h_39 => W_X3_row_106 D d Q K25 r0 r1 x2 r3 x4 h_39) (jth Q))))) (jth Q)))))
theorem w_X3_row_25 {D : JD} {d : Nat} {Q : JO → JH → Prop} {K25 : Nat → Nat → Int32 → Nat → Int32 → JH → Prop} {r0 : Nat} {r1 : Nat} {x2 : Int32} {r3 : Nat} {x4 : Int32} {h : JH} (hK25 : ∀ (r0 : Nat) (r1 : Nat) (x2 : Int32) (r3 : Nat) (x4 : Int32) (h : JH), K25 r0 r1 x2 r3 x4 h → JW D (d + 1) mX3_row 25 [some (vR 3 r0), some (vR 76 r1), some (vI x2), some (vR 113 r3), some (vI x4), none, none] [] h Q) (w : W_X3_row_25 D d Q K25 r0 r1 x2 r3 x4 h) : JW D (d + 1) mX3_row 25 [some (vR 3 r0), some (vR 76 r1), some (vI x2), some (vR 113 r3), some (vI x4), none, none] [] h Q := by
  unfold W_X3_row_25 at w
  refine jw_iload (pc' := 27) rfl rfl ?_
  refine jw_iload_n (pc' := 28) rfl rfl ?_
  refine jw_icmp_ge (tgt := 112) (pc' := 31) rfl rfl (fun c_1 => ?_) (fun c_1 => ?_)
  · replace w := w.1 c_1
    refine jw_aload_n (pc' := 113) rfl rfl ?_
    obtain ⟨g_2, w⟩ := w
    refine jw_getI (pc' := 116) (F := 35) rfl rfl rfl rfl g_2 ?_
    refine jw_sipush (pc' := 119) (x := (8000 : Int32)) rfl rfl ?_
    refine jw_icmp_le (tgt := 128) (pc' := 122) rfl rfl (fun c_3 => ?_) (fun c_3 => ?_)
    · replace w := w.1 c_3
      refine jw_aload_n (pc' := 129) rfl rfl ?_
      obtain ⟨g_4, w⟩ := w
      refine jw_cV (st := []) (sa := [vR 113 r3]) okX2_close rfl rfl rfl rfl rfl rfl (jstp_virtual (sa := []) (st := []) (k := 0) rfl rfl sX2_close okX2_close g_4 (one113.k g_4) rfl rfl) w (fun h_5 _ _ w => ?_)
      refine jw_aload_n (pc' := 133) rfl rfl ?_
      refine jw_getR (pc' := 136) (F := 34) (t' := 110) rfl rfl rfl rfl rfl g_2 ?_
      obtain ⟨g_8, w⟩ := w
      refine jw_cV (st := []) (sa := [vR 110 (jfr h_5 34 r0)]) okX7_end rfl rfl rfl rfl rfl rfl (jstp_virtual (sa := []) (st := []) (k := 0) rfl rfl sX7_end okX7_end g_8 (one110.k g_8) rfl rfl) w (fun h_9 _ _ w => ?_)
      exact jw_return rfl rfl w
    · replace w := w.2 c_3
      refine jw_ldcS (pc' := 124) rfl rfl rfl rfl ?_
      refine jw_cR (st := []) (sa := [vR 51 (jcs D 201)]) okX1_fault rfl rfl rfl rfl rfl rfl (jstp_static (sa := [vR 51 (jcs D 201)]) (st := []) rfl rfl sX1_fault okX1_fault rfl rfl) w (fun v_14 h_12 _ _ _ w => ?_)
      obtain ⟨g_15, w⟩ := w
      exact jw_athrow rfl rfl g_15 w
  · replace w := w.2 c_1
    refine jw_aload_n (pc' := 32) rfl rfl ?_
    refine jw_iload (pc' := 34) rfl rfl ?_
    obtain ⟨g_16, w⟩ := w
    obtain ⟨g_17, w⟩ := w
    refine jw_aald (pc' := 35) (t' := 8) rfl rfl rfl rfl g_16 g_17.ix g_17.2 ?_
    obtain ⟨g_18, w⟩ := w
    refine jw_cI (st := []) (sa := [vR 8 (jar h r1 (ixn x4))]) okX14_isEmpty rfl rfl rfl rfl rfl rfl (jstp_virtual (sa := []) (st := []) (k := 0) rfl rfl sX14_isEmpty okX14_isEmpty g_18 (one8.k g_18) rfl rfl) w (fun v_21 h_19 _ _ w => ?_)
    refine jw_if_eq (tgt := 52) (pc' := 41) rfl rfl (fun c_22 => ?_) (fun c_22 => ?_)
    · replace w := w.1 c_22
      refine jw_aload_n (pc' := 53) rfl rfl ?_
      obtain ⟨g_23, w⟩ := w
      refine jw_getI (pc' := 56) (F := 18) rfl rfl rfl rfl g_23 ?_
      refine jw_istore (pc' := 58) (ls' := [some (vR 3 r0), some (vR 76 r1), some (vI x2), some (vR 113 r3), some (vI x4), some (vI (jfi h_19 18 r3)), none]) rfl (by decide) rfl ?_
      refine jw_aload_n (pc' := 59) rfl rfl ?_
      refine jw_lconst (pc' := 60) (x := (0 : Int64)) rfl rfl ?_
      refine jw_iconst (pc' := 61) (x := (4 : Int32)) rfl rfl ?_
      refine jw_cV (st := []) (sa := [vR 113 r3, vL (0 : Int64), vI (4 : Int32)]) okX2_number rfl rfl rfl rfl rfl rfl (jstp_virtual (sa := [vL (0 : Int64), vI (4 : Int32)]) (st := []) (k := 0) rfl rfl sX2_number okX2_number g_23 (one113.k g_23) rfl rfl) w (fun h_24 _ _ w => ?_)
      refine jw_aload_n (pc' := 65) rfl rfl ?_
      refine jw_iload (pc' := 67) rfl rfl ?_
      obtain ⟨g_27, w⟩ := w
      refine jw_aald (pc' := 68) (t' := 8) rfl rfl rfl rfl g_16 g_27.ix g_27.2 ?_
      refine jw_aload_n (pc' := 69) rfl rfl ?_
      refine jw_cV (st := []) (sa := [vR 8 (jar h_24 r1 (ixn x4)), vR 113 r3]) okX3_value rfl rfl rfl rfl rfl rfl (jstp_static (sa := [vR 8 (jar h_24 r1 (ixn x4)), vR 113 r3]) (st := []) rfl rfl sX3_value okX3_value rfl rfl) w (fun h_28 _ _ w => ?_)
      refine jw_aload_n (pc' := 73) rfl rfl ?_
      refine jw_getI (pc' := 76) (F := 18) rfl rfl rfl rfl g_23 ?_
      refine jw_iload (pc' := 78) rfl rfl ?_
      refine jw_isub (pc' := 79) rfl ?_
      refine jw_iconst (pc' := 80) (x := (4 : Int32)) rfl rfl ?_
      refine jw_isub (pc' := 81) rfl ?_
      refine jw_istore (pc' := 83) (ls' := [some (vR 3 r0), some (vR 76 r1), some (vI x2), some (vR 113 r3), some (vI x4), some (vI (jfi h_19 18 r3)), some (vI (((jfi h_28 18 r3) - (jfi h_19 18 r3)) - (4 : Int32)))]) rfl (by decide) rfl ?_
      refine jw_aload_n (pc' := 84) rfl rfl ?_
      refine jw_getR (pc' := 87) (F := 17) (t' := 127) rfl rfl rfl rfl rfl g_23 ?_
      refine jw_iload (pc' := 89) rfl rfl ?_
      refine jw_iconst (pc' := 90) (x := (3 : Int32)) rfl rfl ?_
      refine jw_iadd (pc' := 91) rfl ?_
      refine jw_iload (pc' := 93) rfl rfl ?_
      refine jw_i2b (pc' := 94) rfl ?_
      obtain ⟨g_31, w⟩ := w
      obtain ⟨g_32, w⟩ := w
      refine jw_bast' (pc' := 95) rfl rfl rfl rfl rfl g_31 g_32 (fun h_33 e_34 => ?_)
      replace w := w h_33 e_34
      refine jw_aload_n (pc' := 96) rfl rfl ?_
      refine jw_dup (pc' := 97) rfl rfl ?_
      obtain ⟨g_35, w⟩ := w
      refine jw_getI (pc' := 100) (F := 35) rfl rfl rfl rfl g_35 ?_
      refine jw_iload (pc' := 102) rfl rfl ?_
      refine jw_iadd (pc' := 103) rfl ?_
      refine jw_putI' (pc' := 106) (F := 35) rfl rfl rfl (Or.inr rfl) (Or.inl rfl) rfl (rfl) (rfl) rfl g_35 (fun h_36 e_37 => ?_)
      replace w := w h_36 e_37
      refine jw_gen (ls' := [some (vR 3 r0), some (vR 76 r1), some (vI x2), some (vR 113 r3), some (vI x4), none, none]) (st' := []) (And.intro (Or.inl rfl) (And.intro (Or.inl rfl) (And.intro (Or.inl rfl) (And.intro (Or.inl rfl) (And.intro (Or.inl rfl) (trivial)))))) (trivial) ?_
      exact w_X3_row_106 hK25 w
    · replace w := w.2 c_22
      refine jw_aload_n (pc' := 42) rfl rfl ?_
      refine jw_ldc2 (pc' := 45) (v := (-1 : Int64)) rfl rfl ?_
      refine jw_iconst (pc' := 46) (x := (4 : Int32)) rfl rfl ?_
      obtain ⟨g_38, w⟩ := w
      refine jw_cV (st := []) (sa := [vR 113 r3, vL (-1 : Int64), vI (4 : Int32)]) okX2_number rfl rfl rfl rfl rfl rfl (jstp_virtual (sa := [vL (-1 : Int64), vI (4 : Int32)]) (st := []) (k := 0) rfl rfl sX2_number okX2_number g_38 (one113.k g_38) rfl rfl) w (fun h_39 _ _ w => ?_)
      refine jw_goto (pc' := 106) rfl rfl ?_
      exact w_X3_row_106 hK25 w
def L_X3_row_25 (D : JD) (d : Nat) (Q : JO → JH → Prop) : Nat → Nat → Nat → Int32 → Nat → Int32 → JH → Prop
  | 0 => fun _ _ _ _ _ _ => False
  | n + 1 => fun r0 r1 x2 r3 x4 h => W_X3_row_25 D d Q (L_X3_row_25 D d Q n) r0 r1 x2 r3 x4 h
theorem l_X3_row_25 {D : JD} {d : Nat} {Q : JO → JH → Prop} : ∀ (n : Nat) (r0 : Nat) (r1 : Nat) (x2 : Int32) (r3 : Nat) (x4 : Int32) (h : JH), L_X3_row_25 D d Q n r0 r1 x2 r3 x4 h → JW D (d + 1) mX3_row 25 [some (vR 3 r0), some (vR 76 r1), some (vI x2), some (vR 113 r3), some (vI x4), none, none] [] h Q := by
  intro n
  induction n with
  | zero => intro _ _ _ _ _ _ w; exact w.elim
  | succ n ih => intro _ _ _ _ _ h w; exact w_X3_row_25 ih w
def W_X3_row_0 (D : JD) (d : Nat) (Q : JO → JH → Prop) (r0 : Nat) (r1 : Nat) (x2 : Int32) (h : JH) : Prop :=
  r0 ≠ 0 ∧ ((jfr h 34 r0) ≠ 0 ∧ ((jfr h 61 (jfr h 34 r0)) ≠ 0 ∧ (cX2_open D d (jfr h 61 (jfr h 34 r0)) (68 : Int32) h (pR D h 2 (fun v_6 h_4 => cX2_number D d (jfr h 61 (jfr h 34 r0)) (Int32.toInt64 x2) (2 : Int32) h_4 (pV D h_4 (fun h_7 => ∃ n, L_X3_row_25 D d Q n r0 r1 x2 (jfr h 61 (jfr h 34 r0)) (0 : Int32) h_7) (jth Q))) (jth Q)))))
theorem w_X3_row_0 {D : JD} {d : Nat} {Q : JO → JH → Prop} {r0 : Nat} {r1 : Nat} {x2 : Int32} {h : JH} (w : W_X3_row_0 D d Q r0 r1 x2 h) : JW D (d + 1) mX3_row 0 [some (vR 3 r0), some (vR 76 r1), some (vI x2), none, none, none, none] [] h Q := by
  unfold W_X3_row_0 at w
  refine jw_aload_n (pc' := 1) rfl rfl ?_
  obtain ⟨g_1, w⟩ := w
  refine jw_getR (pc' := 4) (F := 34) (t' := 110) rfl rfl rfl rfl rfl g_1 ?_
  obtain ⟨g_2, w⟩ := w
  refine jw_getR (pc' := 7) (F := 61) (t' := 113) rfl rfl rfl rfl rfl g_2 ?_
  refine jw_astore_n (pc' := 8) (ls' := [some (vR 3 r0), some (vR 76 r1), some (vI x2), some (vR 113 (jfr h 61 (jfr h 34 r0))), none, none, none]) rfl (by decide) rfl ?_
  refine jw_aload_n (pc' := 9) rfl rfl ?_
  refine jw_bipush (pc' := 11) (x := (68 : Int32)) rfl rfl ?_
  obtain ⟨g_3, w⟩ := w
  refine jw_cR (st := []) (sa := [vR 113 (jfr h 61 (jfr h 34 r0)), vI (68 : Int32)]) okX2_open rfl rfl rfl rfl rfl rfl (jstp_virtual (sa := [vI (68 : Int32)]) (st := []) (k := 0) rfl rfl sX2_open okX2_open g_3 (one113.k g_3) rfl rfl) w (fun v_6 h_4 _ _ _ w => ?_)
  refine jw_pop (pc' := 15) rfl rfl ?_
  refine jw_aload_n (pc' := 16) rfl rfl ?_
  refine jw_iload_n (pc' := 17) rfl rfl ?_
  refine jw_i2l (pc' := 18) rfl ?_
  refine jw_iconst (pc' := 19) (x := (2 : Int32)) rfl rfl ?_
  refine jw_cV (st := []) (sa := [vR 113 (jfr h 61 (jfr h 34 r0)), vL (Int32.toInt64 x2), vI (2 : Int32)]) okX2_number rfl rfl rfl rfl rfl rfl (jstp_virtual (sa := [vL (Int32.toInt64 x2), vI (2 : Int32)]) (st := []) (k := 0) rfl rfl sX2_number okX2_number g_3 (one113.k g_3) rfl rfl) w (fun h_7 _ _ w => ?_)
  refine jw_iconst (pc' := 23) (x := (0 : Int32)) rfl rfl ?_
  refine jw_istore (pc' := 25) (ls' := [some (vR 3 r0), some (vR 76 r1), some (vI x2), some (vR 113 (jfr h 61 (jfr h 34 r0))), some (vI (0 : Int32)), none, none]) rfl (by decide) rfl ?_
  obtain ⟨n, w⟩ := w
  exact l_X3_row_25 n _ _ _ _ _ _ w
def T_X3_row (D : JD) (d : Nat) (Q : JO → JH → Prop) (r0 : Nat) (r1 : Nat) (x2 : Int32) (h : JH) : Prop := W_X3_row_0 D d Q r0 r1 x2 h
theorem t_X3_row {D : JD} {d : Nat} {Q : JO → JH → Prop} {r0 : Nat} {r1 : Nat} {x2 : Int32} {h : JH} (w : T_X3_row D d Q r0 r1 x2 h) : cX3_row D (d + 1) r0 r1 x2 h Q := by
  unfold T_X3_row at w
  unfold cX3_row
  exact w_X3_row_0 w
def W_X3_value_47 (D : JD) (d : Nat) (Q : JO → JH → Prop) (q0 : Nat) (s1 : Int32) (h : JH) : Prop :=
  q0 ≠ 0 ∧ (cX2_put D d q0 s1 h (pV D h (fun h_2 => Q (.inl none) h_2) (jth Q)))
theorem w_X3_value_47 {D : JD} {d : Nat} {Q : JO → JH → Prop} {q0 : Nat} {s1 : Int32} {h : JH} (w : W_X3_value_47 D d Q q0 s1 h) : JW D (d + 1) mX3_value 47 [none, none] [vI s1, vR 2 q0] h Q := by
  unfold W_X3_value_47 at w
  obtain ⟨g_1, w⟩ := w
  refine jw_cV (st := []) (sa := [vR 2 q0, vI s1]) okX2_put rfl rfl rfl rfl rfl rfl (jstp_virtual (sa := [vI s1]) (st := []) (k := 0) rfl rfl sX2_put okX2_put g_1 (one2.k g_1) rfl rfl) w (fun h_2 _ _ w => ?_)
  exact jw_return rfl rfl w
def W_X3_value_0 (D : JD) (d : Nat) (Q : JO → JH → Prop) (r0 : Nat) (r1 : Nat) (h : JH) : Prop :=
  r0 ≠ 0 ∧ ((jfr h 64 r0) ≠ 0 ∧ (cJ11_ordinal D d (jfr h 64 r0) h (pI D h (fun v_5 h_3 => (v_5 = (0 : Int32) → cX14_isTrue D d r0 h_3 (pI D h_3 (fun v_9 h_7 => (v_9 = 0 → W_X3_value_47 D d Q r1 (102 : Int32) h_7) ∧ (¬ v_9 = 0 → W_X3_value_47 D d Q r1 (116 : Int32) h_7)) (jth Q))) ∧ (v_5 = (1 : Int32) → cX14_number_2 D d r0 h_3 (pL D h_3 (fun v_13 h_12 => r1 ≠ 0 ∧ (cX2_digits D d r1 v_13 h_12 (pV D h_12 (fun h_15 => Q (.inl none) h_15) (jth Q)))) (jth Q))) ∧ (¬ v_5 = (0 : Int32) → ¬ v_5 = (1 : Int32) → cX14_bytes D d r0 h_3 (pR D h_3 65 (fun v_20 h_18 => cX14_size D d r0 h_18 (pI D h_18 (fun v_23 h_21 => r1 ≠ 0 ∧ (cX2_copy D d r1 v_20 (0 : Int32) v_23 h_21 (pV D h_21 (fun h_25 => Q (.inl none) h_25) (jth Q)))) (jth Q))) (jth Q)))) (jth Q))))
theorem w_X3_value_0 {D : JD} {d : Nat} {Q : JO → JH → Prop} {r0 : Nat} {r1 : Nat} {h : JH} (w : W_X3_value_0 D d Q r0 r1 h) : JW D (d + 1) mX3_value 0 [some (vR 8 r0), some (vR 2 r1)] [] h Q := by
  unfold W_X3_value_0 at w
  refine jw_aload_n (pc' := 1) rfl rfl ?_
  obtain ⟨g_1, w⟩ := w
  refine jw_getR (pc' := 4) (F := 64) (t' := 52) rfl rfl rfl rfl rfl g_1 ?_
  obtain ⟨g_2, w⟩ := w
  refine jw_cI (st := []) (sa := [vR 52 (jfr h 64 r0)]) okJ11_ordinal rfl rfl rfl rfl rfl rfl (jstp_up (sa := []) (st := []) rfl (lw_g (jtb_mem (c := 13) (i := 62) rfl) rfl) um109 okJ11_ordinal g_2 (one52.k g_2) rfl rfl) w (fun v_5 h_3 _ _ w => ?_)
  refine jw_lsw (cs := [((0 : Int32), 32), ((1 : Int32), 51)]) (dt := 60) rfl (by decide +kernel) (by decide +kernel) ?_
  by_cases c_6 : v_5 = (0 : Int32)
  · rw [jsw_hit c_6]
    replace w := w.1 c_6
    refine jw_aload_n (pc' := 33) rfl rfl ?_
    refine jw_aload_n (pc' := 34) rfl rfl ?_
    refine jw_cI (st := [vR 2 r1]) (sa := [vR 8 r0]) okX14_isTrue rfl rfl rfl rfl rfl rfl (jstp_virtual (sa := []) (st := [vR 2 r1]) (k := 0) rfl rfl sX14_isTrue okX14_isTrue g_1 (one8.k g_1) rfl rfl) w (fun v_9 h_7 _ _ w => ?_)
    refine jw_if_eq (tgt := 45) (pc' := 40) rfl rfl (fun c_10 => ?_) (fun c_10 => ?_)
    · replace w := w.1 c_10
      refine jw_bipush (pc' := 47) (x := (102 : Int32)) rfl rfl ?_
      refine jw_gen (ls' := [none, none]) (st' := [vI (102 : Int32), vR 2 r1]) (trivial) (And.intro (Or.inl rfl) (And.intro (Or.inl rfl) (trivial))) ?_
      exact w_X3_value_47 w
    · replace w := w.2 c_10
      refine jw_bipush (pc' := 42) (x := (116 : Int32)) rfl rfl ?_
      refine jw_goto (pc' := 47) rfl rfl ?_
      refine jw_gen (ls' := [none, none]) (st' := [vI (116 : Int32), vR 2 r1]) (trivial) (And.intro (Or.inl rfl) (And.intro (Or.inl rfl) (trivial))) ?_
      exact w_X3_value_47 w
  · rw [jsw_miss c_6]
    replace w := w.2
    by_cases c_11 : v_5 = (1 : Int32)
    · rw [jsw_hit c_11]
      replace w := w.1 c_11
      refine jw_aload_n (pc' := 52) rfl rfl ?_
      refine jw_aload_n (pc' := 53) rfl rfl ?_
      refine jw_cL (st := [vR 2 r1]) (sa := [vR 8 r0]) okX14_number_2 rfl rfl rfl rfl rfl rfl (jstp_virtual (sa := []) (st := [vR 2 r1]) (k := 0) rfl rfl sX14_number_2 okX14_number_2 g_1 (one8.k g_1) rfl rfl) w (fun v_13 h_12 _ _ w => ?_)
      obtain ⟨g_14, w⟩ := w
      refine jw_cV (st := []) (sa := [vR 2 r1, vL v_13]) okX2_digits rfl rfl rfl rfl rfl rfl (jstp_virtual (sa := [vL v_13]) (st := []) (k := 0) rfl rfl sX2_digits okX2_digits g_14 (one2.k g_14) rfl rfl) w (fun h_15 _ _ w => ?_)
      exact jw_return rfl rfl w
    · rw [jsw_miss c_11]
      replace w := w.2
      rw [jsw_nil]
      replace w := w c_6 c_11
      refine jw_aload_n (pc' := 61) rfl rfl ?_
      refine jw_aload_n (pc' := 62) rfl rfl ?_
      refine jw_cR (st := [vR 2 r1]) (sa := [vR 8 r0]) okX14_bytes rfl rfl rfl rfl rfl rfl (jstp_virtual (sa := []) (st := [vR 2 r1]) (k := 0) rfl rfl sX14_bytes okX14_bytes g_1 (one8.k g_1) rfl rfl) w (fun v_20 h_18 _ _ _ w => ?_)
      refine jw_iconst (pc' := 66) (x := (0 : Int32)) rfl rfl ?_
      refine jw_aload_n (pc' := 67) rfl rfl ?_
      refine jw_cI (st := [vI (0 : Int32), vR 65 v_20, vR 2 r1]) (sa := [vR 8 r0]) okX14_size rfl rfl rfl rfl rfl rfl (jstp_virtual (sa := []) (st := [vI (0 : Int32), vR 65 v_20, vR 2 r1]) (k := 0) rfl rfl sX14_size okX14_size g_1 (one8.k g_1) rfl rfl) w (fun v_23 h_21 _ _ w => ?_)
      obtain ⟨g_24, w⟩ := w
      refine jw_cV (st := []) (sa := [vR 2 r1, vR 65 v_20, vI (0 : Int32), vI v_23]) okX2_copy rfl rfl rfl rfl rfl rfl (jstp_virtual (sa := [vR 65 v_20, vI (0 : Int32), vI v_23]) (st := []) (k := 0) rfl rfl sX2_copy okX2_copy g_24 (one2.k g_24) rfl rfl) w (fun h_25 _ _ w => ?_)
      exact jw_return rfl rfl w
def T_X3_value (D : JD) (d : Nat) (Q : JO → JH → Prop) (r0 : Nat) (r1 : Nat) (h : JH) : Prop := W_X3_value_0 D d Q r0 r1 h
theorem t_X3_value {D : JD} {d : Nat} {Q : JO → JH → Prop} {r0 : Nat} {r1 : Nat} {h : JH} (w : T_X3_value D d Q r0 r1 h) : cX3_value D (d + 1) r0 r1 h Q := by
  unfold T_X3_value at w
  unfold cX3_value
  exact w_X3_value_0 w
def W_X3_failed_19 (D : JD) (d : Nat) (Q : JO → JH → Prop) (h : JH) : Prop :=
  Q (.inl none) h
theorem w_X3_failed_19 {D : JD} {d : Nat} {Q : JO → JH → Prop} {h : JH} (w : W_X3_failed_19 D d Q h) : JW D (d + 1) mX3_failed 19 [none] [] h Q := by
  unfold W_X3_failed_19 at w
  exact jw_return rfl rfl w
def W_X3_failed_0 (D : JD) (d : Nat) (Q : JO → JH → Prop) (r0 : Nat) (h : JH) : Prop :=
  r0 ≠ 0 ∧ (((jfi h 36 r0) = 0 → cX3_back D d r0 h (pV D h (fun h_3 => W_X3_failed_19 D d Q h_3) (jth Q))) ∧ (¬ (jfi h 36 r0) = 0 → ∀ h_6 : JH, h_6 = wfi h 37 r0 (1 : Int32) → (W_X3_failed_19 D d Q h_6)))
theorem w_X3_failed_0 {D : JD} {d : Nat} {Q : JO → JH → Prop} {r0 : Nat} {h : JH} (w : W_X3_failed_0 D d Q r0 h) : JW D (d + 1) mX3_failed 0 [some (vR 3 r0)] [] h Q := by
  unfold W_X3_failed_0 at w
  refine jw_aload_n (pc' := 1) rfl rfl ?_
  obtain ⟨g_1, w⟩ := w
  refine jw_getI (pc' := 4) (F := 36) rfl rfl rfl rfl g_1 ?_
  refine jw_if_eq (tgt := 15) (pc' := 7) rfl rfl (fun c_2 => ?_) (fun c_2 => ?_)
  · replace w := w.1 c_2
    refine jw_aload_n (pc' := 16) rfl rfl ?_
    refine jw_cV (st := []) (sa := [vR 3 r0]) okX3_back rfl rfl rfl rfl rfl rfl (jstp_virtual (sa := []) (st := []) (k := 0) rfl rfl sX3_back okX3_back g_1 (one3.k g_1) rfl rfl) w (fun h_3 _ _ w => ?_)
    refine jw_gen (ls' := [none]) (st' := []) (trivial) (trivial) ?_
    exact w_X3_failed_19 w
  · replace w := w.2 c_2
    refine jw_aload_n (pc' := 8) rfl rfl ?_
    refine jw_iconst (pc' := 9) (x := (1 : Int32)) rfl rfl ?_
    refine jw_putI' (pc' := 12) (F := 37) rfl rfl rfl (Or.inr rfl) (Or.inl rfl) rfl (rfl) (rfl) rfl g_1 (fun h_6 e_7 => ?_)
    replace w := w h_6 e_7
    refine jw_goto (pc' := 19) rfl rfl ?_
    refine jw_gen (ls' := [none]) (st' := []) (trivial) (trivial) ?_
    exact w_X3_failed_19 w
def T_X3_failed (D : JD) (d : Nat) (Q : JO → JH → Prop) (r0 : Nat) (h : JH) : Prop := W_X3_failed_0 D d Q r0 h
theorem t_X3_failed {D : JD} {d : Nat} {Q : JO → JH → Prop} {r0 : Nat} {h : JH} (w : T_X3_failed D d Q r0 h) : cX3_failed D (d + 1) r0 h Q := by
  unfold T_X3_failed at w
  unfold cX3_failed
  exact w_X3_failed_0 w
def W_X30_init_0 (D : JD) (d : Nat) (Q : JO → JH → Prop) (r0 : Nat) (r1 : Nat) (r2 : Nat) (h : JH) : Prop :=
  r0 ≠ 0 ∧ (cX24_init D d r0 h (pV D h (fun h_2 => cX30_again D d r0 r1 r2 h_2 (pR D h_2 24 (fun v_7 h_5 => Q (.inl none) h_5) (jth Q))) (jth Q)))
theorem w_X30_init_0 {D : JD} {d : Nat} {Q : JO → JH → Prop} {r0 : Nat} {r1 : Nat} {r2 : Nat} {h : JH} (w : W_X30_init_0 D d Q r0 r1 r2 h) : JW D (d + 1) mX30_init 0 [some (vR 24 r0), some (vR 64 r1), some (vR 64 r2)] [] h Q := by
  unfold W_X30_init_0 at w
  refine jw_aload_n (pc' := 1) rfl rfl ?_
  obtain ⟨g_1, w⟩ := w
  refine jw_cV (st := []) (sa := [vR 24 r0]) okX24_init rfl rfl rfl rfl rfl rfl (jstp_init (sa := []) (st := []) rfl rfl sX24_init okX24_init (lw_g (jtb_mem (c := 7) (i := 95) rfl) rfl) g_1 rfl rfl) w (fun h_2 _ _ w => ?_)
  refine jw_aload_n (pc' := 5) rfl rfl ?_
  refine jw_aload_n (pc' := 6) rfl rfl ?_
  refine jw_aload_n (pc' := 7) rfl rfl ?_
  refine jw_cR (st := []) (sa := [vR 24 r0, vR 64 r1, vR 64 r2]) okX30_again rfl rfl rfl rfl rfl rfl (jstp_virtual (sa := [vR 64 r1, vR 64 r2]) (st := []) (k := 0) rfl rfl sX30_again okX30_again g_1 (one24.k g_1) rfl rfl) w (fun v_7 h_5 _ _ _ w => ?_)
  refine jw_pop (pc' := 11) rfl rfl ?_
  exact jw_return rfl rfl w
def T_X30_init (D : JD) (d : Nat) (Q : JO → JH → Prop) (r0 : Nat) (r1 : Nat) (r2 : Nat) (h : JH) : Prop := W_X30_init_0 D d Q r0 r1 r2 h
theorem t_X30_init {D : JD} {d : Nat} {Q : JO → JH → Prop} {r0 : Nat} {r1 : Nat} {r2 : Nat} {h : JH} (w : T_X30_init D d Q r0 r1 r2 h) : cX30_init D (d + 1) r0 r1 r2 h Q := by
  unfold T_X30_init at w
  unfold cX30_init
  exact w_X30_init_0 w
def W_X30_again_0 (D : JD) (d : Nat) (Q : JO → JH → Prop) (r0 : Nat) (r1 : Nat) (r2 : Nat) (h : JH) : Prop :=
  r0 ≠ 0 ∧ ∀ h_2 : JH, h_2 = wfr h 117 r0 r1 → (∀ h_4 : JH, h_4 = wfr h_2 118 r0 r2 → (Q (.inl (some (vR 24 r0))) h_4))
theorem w_X30_again_0 {D : JD} {d : Nat} {Q : JO → JH → Prop} {r0 : Nat} {r1 : Nat} {r2 : Nat} {h : JH} (w : W_X30_again_0 D d Q r0 r1 r2 h) : JW D (d + 1) mX30_again 0 [some (vR 24 r0), some (vR 64 r1), some (vR 64 r2)] [] h Q := by
  unfold W_X30_again_0 at w
  refine jw_aload_n (pc' := 1) rfl rfl ?_
  refine jw_aload_n (pc' := 2) rfl rfl ?_
  obtain ⟨g_1, w⟩ := w
  refine jw_putR' (pc' := 5) (F := 117) rfl rfl rfl (Or.inr rfl) (Or.inl rfl) rfl rfl rfl g_1 (fun h_2 e_3 => ?_)
  replace w := w h_2 e_3
  refine jw_aload_n (pc' := 6) rfl rfl ?_
  refine jw_aload_n (pc' := 7) rfl rfl ?_
  refine jw_putR' (pc' := 10) (F := 118) rfl rfl rfl (Or.inr rfl) (Or.inl rfl) rfl rfl rfl g_1 (fun h_4 e_5 => ?_)
  replace w := w h_4 e_5
  refine jw_aload_n (pc' := 11) rfl rfl ?_
  exact jw_areturn rfl rfl rfl rfl rfl w
def T_X30_again (D : JD) (d : Nat) (Q : JO → JH → Prop) (r0 : Nat) (r1 : Nat) (r2 : Nat) (h : JH) : Prop := W_X30_again_0 D d Q r0 r1 r2 h
theorem t_X30_again {D : JD} {d : Nat} {Q : JO → JH → Prop} {r0 : Nat} {r1 : Nat} {r2 : Nat} {h : JH} (w : T_X30_again D d Q r0 r1 r2 h) : cX30_again D (d + 1) r0 r1 r2 h Q := by
  unfold T_X30_again at w
  unfold cX30_again
  exact w_X30_again_0 w
def W_X30_check_135 (D : JD) (d : Nat) (Q : JO → JH → Prop) (q0 : Nat) (h : JH) : Prop :=
  cX1_fault D d q0 h (pR D h 9 (fun v_3 h_1 => v_3 ≠ 0 ∧ (Q (.inr v_3) h_1)) (jth Q))
theorem w_X30_check_135 {D : JD} {d : Nat} {Q : JO → JH → Prop} {q0 : Nat} {h : JH} (w : W_X30_check_135 D d Q q0 h) : JW D (d + 1) mX30_check 135 [none, none, none, none] [vR 51 q0] h Q := by
  unfold W_X30_check_135 at w
  refine jw_cR (st := []) (sa := [vR 51 q0]) okX1_fault rfl rfl rfl rfl rfl rfl (jstp_static (sa := [vR 51 q0]) (st := []) rfl rfl sX1_fault okX1_fault rfl rfl) w (fun v_3 h_1 _ _ _ w => ?_)
  obtain ⟨g_4, w⟩ := w
  exact jw_athrow rfl rfl g_4 w
def W_X30_check_108 (D : JD) (d : Nat) (Q : JO → JH → Prop) (K7 : Nat → Nat → Int32 → JH → Prop) (r0 : Nat) (r1 : Nat) (x2 : Int32) (h : JH) : Prop :=
  K7 r0 r1 (x2 + (1 : Int32)) h
theorem w_X30_check_108 {D : JD} {d : Nat} {Q : JO → JH → Prop} {K7 : Nat → Nat → Int32 → JH → Prop} {r0 : Nat} {r1 : Nat} {x2 : Int32} {h : JH} (hK7 : ∀ (r0 : Nat) (r1 : Nat) (x2 : Int32) (h : JH), K7 r0 r1 x2 h → JW D (d + 1) mX30_check 7 [some (vR 24 r0), some (vR 6 r1), some (vI x2), none] [] h Q) (w : W_X30_check_108 D d Q K7 r0 r1 x2 h) : JW D (d + 1) mX30_check 108 [some (vR 24 r0), some (vR 6 r1), some (vI x2), none] [] h Q := by
  unfold W_X30_check_108 at w
  refine jw_iinc (pc' := 111) (y := x2 + (1 : Int32)) (ls' := [some (vR 24 r0), some (vR 6 r1), some (vI (x2 + (1 : Int32))), none]) rfl (by decide) rfl rfl rfl ?_
  refine jw_goto (pc' := 7) rfl rfl ?_
  exact hK7 _ _ _ _ w
def W_X30_check_78 (D : JD) (d : Nat) (Q : JO → JH → Prop) (K7 : Nat → Nat → Int32 → JH → Prop) (r0 : Nat) (r1 : Nat) (x2 : Int32) (x3 : Int32) (h : JH) : Prop :=
  (0 ≤ x3 → r0 ≠ 0 ∧ (((jfi h 119 r0) < 0 → ∀ h_4 : JH, h_4 = wfi h 119 r0 x2 → (∀ h_6 : JH, h_6 = wfi h_4 120 r0 x3 → (W_X30_check_108 D d Q K7 r0 r1 x2 h_6))) ∧ (¬ (jfi h 119 r0) < 0 → cX1_fault D d (jcs D 165) h (pR D h 9 (fun v_10 h_8 => v_10 ≠ 0 ∧ (Q (.inr v_10) h_8)) (jth Q))))) ∧ (¬ 0 ≤ x3 → W_X30_check_108 D d Q K7 r0 r1 x2 h)
theorem w_X30_check_78 {D : JD} {d : Nat} {Q : JO → JH → Prop} {K7 : Nat → Nat → Int32 → JH → Prop} {r0 : Nat} {r1 : Nat} {x2 : Int32} {x3 : Int32} {h : JH} (hK7 : ∀ (r0 : Nat) (r1 : Nat) (x2 : Int32) (h : JH), K7 r0 r1 x2 h → JW D (d + 1) mX30_check 7 [some (vR 24 r0), some (vR 6 r1), some (vI x2), none] [] h Q) (w : W_X30_check_78 D d Q K7 r0 r1 x2 x3 h) : JW D (d + 1) mX30_check 78 [some (vR 24 r0), some (vR 6 r1), some (vI x2), some (vI x3)] [] h Q := by
  unfold W_X30_check_78 at w
  refine jw_iload_n (pc' := 79) rfl rfl ?_
  refine jw_if_ge (tgt := 85) (pc' := 82) rfl rfl (fun c_1 => ?_) (fun c_1 => ?_)
  · replace w := w.1 c_1
    refine jw_aload_n (pc' := 86) rfl rfl ?_
    obtain ⟨g_2, w⟩ := w
    refine jw_getI (pc' := 89) (F := 119) rfl rfl rfl rfl g_2 ?_
    refine jw_if_lt (tgt := 98) (pc' := 92) rfl rfl (fun c_3 => ?_) (fun c_3 => ?_)
    · replace w := w.1 c_3
      refine jw_aload_n (pc' := 99) rfl rfl ?_
      refine jw_iload_n (pc' := 100) rfl rfl ?_
      refine jw_putI' (pc' := 103) (F := 119) rfl rfl rfl (Or.inr rfl) (Or.inl rfl) rfl (rfl) (rfl) rfl g_2 (fun h_4 e_5 => ?_)
      replace w := w h_4 e_5
      refine jw_aload_n (pc' := 104) rfl rfl ?_
      refine jw_iload_n (pc' := 105) rfl rfl ?_
      refine jw_putI' (pc' := 108) (F := 120) rfl rfl rfl (Or.inr rfl) (Or.inl rfl) rfl (rfl) (rfl) rfl g_2 (fun h_6 e_7 => ?_)
      replace w := w h_6 e_7
      refine jw_gen (ls' := [some (vR 24 r0), some (vR 6 r1), some (vI x2), none]) (st' := []) (And.intro (Or.inl rfl) (And.intro (Or.inl rfl) (And.intro (Or.inl rfl) (trivial)))) (trivial) ?_
      exact w_X30_check_108 hK7 w
    · replace w := w.2 c_3
      refine jw_ldcS (pc' := 94) rfl rfl rfl rfl ?_
      refine jw_cR (st := []) (sa := [vR 51 (jcs D 165)]) okX1_fault rfl rfl rfl rfl rfl rfl (jstp_static (sa := [vR 51 (jcs D 165)]) (st := []) rfl rfl sX1_fault okX1_fault rfl rfl) w (fun v_10 h_8 _ _ _ w => ?_)
      obtain ⟨g_11, w⟩ := w
      exact jw_athrow rfl rfl g_11 w
  · replace w := w.2 c_1
    refine jw_goto (pc' := 108) rfl rfl ?_
    refine jw_gen (ls' := [some (vR 24 r0), some (vR 6 r1), some (vI x2), none]) (st' := []) (And.intro (Or.inl rfl) (And.intro (Or.inl rfl) (And.intro (Or.inl rfl) (trivial)))) (trivial) ?_
    exact w_X30_check_108 hK7 w
def W_X30_check_44 (D : JD) (d : Nat) (Q : JO → JH → Prop) (K7 : Nat → Nat → Int32 → JH → Prop) (r0 : Nat) (r1 : Nat) (x2 : Int32) (h : JH) : Prop :=
  r1 ≠ 0 ∧ ((jfr h 47 r1) ≠ 0 ∧ jin x2 (jln h (jfr h 47 r1)) ∧ ((jar h (jfr h 47 r1) (ixn x2)) ≠ 0 ∧ (r0 ≠ 0 ∧ ((jfr h 138 (jar h (jfr h 47 r1) (ixn x2))) ≠ 0 ∧ (cX5_column D d (jfr h 138 (jar h (jfr h 47 r1) (ixn x2))) (jfr h 118 r0) h (pI D h (fun v_9 h_7 => (0 ≤ v_9 → W_X30_check_78 D d Q K7 r0 r1 x2 v_9 h_7) ∧ (¬ 0 ≤ v_9 → ((jfr h_7 117 r0) = 0 → W_X30_check_78 D d Q K7 r0 r1 x2 v_9 h_7) ∧ ((jfr h_7 117 r0) ≠ 0 → cX1_fault D d (jcs D 164) h_7 (pR D h_7 9 (fun v_14 h_12 => v_14 ≠ 0 ∧ (Q (.inr v_14) h_12)) (jth Q))))) (jth Q)))))))
theorem w_X30_check_44 {D : JD} {d : Nat} {Q : JO → JH → Prop} {K7 : Nat → Nat → Int32 → JH → Prop} {r0 : Nat} {r1 : Nat} {x2 : Int32} {h : JH} (hK7 : ∀ (r0 : Nat) (r1 : Nat) (x2 : Int32) (h : JH), K7 r0 r1 x2 h → JW D (d + 1) mX30_check 7 [some (vR 24 r0), some (vR 6 r1), some (vI x2), none] [] h Q) (w : W_X30_check_44 D d Q K7 r0 r1 x2 h) : JW D (d + 1) mX30_check 44 [some (vR 24 r0), some (vR 6 r1), some (vI x2), none] [] h Q := by
  unfold W_X30_check_44 at w
  refine jw_aload_n (pc' := 45) rfl rfl ?_
  obtain ⟨g_1, w⟩ := w
  refine jw_getR (pc' := 48) (F := 47) (t' := 141) rfl rfl rfl rfl rfl g_1 ?_
  refine jw_iload_n (pc' := 49) rfl rfl ?_
  obtain ⟨g_2, w⟩ := w
  obtain ⟨g_3, w⟩ := w
  refine jw_aald (pc' := 50) (t' := 31) rfl rfl rfl rfl g_2 g_3.ix g_3.2 ?_
  obtain ⟨g_4, w⟩ := w
  refine jw_getR (pc' := 53) (F := 138) (t' := 5) rfl rfl rfl rfl rfl g_4 ?_
  refine jw_aload_n (pc' := 54) rfl rfl ?_
  obtain ⟨g_5, w⟩ := w
  refine jw_getR (pc' := 57) (F := 118) (t' := 64) rfl rfl rfl rfl rfl g_5 ?_
  obtain ⟨g_6, w⟩ := w
  refine jw_cI (st := []) (sa := [vR 5 (jfr h 138 (jar h (jfr h 47 r1) (ixn x2))), vR 64 (jfr h 118 r0)]) okX5_column rfl rfl rfl rfl rfl rfl (jstp_virtual (sa := [vR 64 (jfr h 118 r0)]) (st := []) (k := 0) rfl rfl sX5_column okX5_column g_6 (one5.k g_6) rfl rfl) w (fun v_9 h_7 _ _ w => ?_)
  refine jw_istore_n (pc' := 61) (ls' := [some (vR 24 r0), some (vR 6 r1), some (vI x2), some (vI v_9)]) rfl (by decide) rfl ?_
  refine jw_iload_n (pc' := 62) rfl rfl ?_
  refine jw_if_ge (tgt := 78) (pc' := 65) rfl rfl (fun c_10 => ?_) (fun c_10 => ?_)
  · replace w := w.1 c_10
    exact w_X30_check_78 hK7 w
  · replace w := w.2 c_10
    refine jw_aload_n (pc' := 66) rfl rfl ?_
    refine jw_getR (pc' := 69) (F := 117) (t' := 64) rfl rfl rfl rfl rfl g_5 ?_
    refine jw_ifnull (tgt := 78) (pc' := 72) rfl rfl (fun c_11 => ?_) (fun c_11 => ?_)
    · replace w := w.1 c_11
      exact w_X30_check_78 hK7 w
    · replace w := w.2 c_11
      refine jw_ldcS (pc' := 74) rfl rfl rfl rfl ?_
      refine jw_cR (st := []) (sa := [vR 51 (jcs D 164)]) okX1_fault rfl rfl rfl rfl rfl rfl (jstp_static (sa := [vR 51 (jcs D 164)]) (st := []) rfl rfl sX1_fault okX1_fault rfl rfl) w (fun v_14 h_12 _ _ _ w => ?_)
      obtain ⟨g_15, w⟩ := w
      exact jw_athrow rfl rfl g_15 w
def W_X30_check_7 (D : JD) (d : Nat) (Q : JO → JH → Prop) (K7 : Nat → Nat → Int32 → JH → Prop) (r0 : Nat) (r1 : Nat) (x2 : Int32) (h : JH) : Prop :=
  r1 ≠ 0 ∧ (((jfi h 48 r1) ≤ x2 → r0 ≠ 0 ∧ ((0 ≤ (jfi h 119 r0) → (jfr h 47 r1) ≠ 0 ∧ jin (jfi h 119 r0) (jln h (jfr h 47 r1)) ∧ ((jar h (jfr h 47 r1) (ixn (jfi h 119 r0))) ≠ 0 ∧ ((jfr h 138 (jar h (jfr h 47 r1) (ixn (jfi h 119 r0)))) ≠ 0 ∧ ((jfr h 43 (jfr h 138 (jar h (jfr h 47 r1) (ixn (jfi h 119 r0))))) ≠ 0 ∧ jin (jfi h 120 r0) (jln h (jfr h 43 (jfr h 138 (jar h (jfr h 47 r1) (ixn (jfi h 119 r0)))))) ∧ ((jar h (jfr h 43 (jfr h 138 (jar h (jfr h 47 r1) (ixn (jfi h 119 r0))))) (ixn (jfi h 120 r0))) ≠ 0 ∧ (∀ h_12 : JH, h_12 = wfr h 109 r0 (jfr h 93 (jar h (jfr h 43 (jfr h 138 (jar h (jfr h 47 r1) (ixn (jfi h 119 r0))))) (ixn (jfi h 120 r0)))) → (Q (.inl (some (vR 52 (jfr h_12 109 r0)))) h_12))))))) ∧ (¬ 0 ≤ (jfi h 119 r0) → ((jfr h 117 r0) = 0 → W_X30_check_135 D d Q (jcs D 164) h) ∧ ((jfr h 117 r0) ≠ 0 → W_X30_check_135 D d Q (jcs D 166) h)))) ∧ (¬ (jfi h 48 r1) ≤ x2 → r0 ≠ 0 ∧ (((jfr h 117 r0) = 0 → W_X30_check_44 D d Q K7 r0 r1 x2 h) ∧ ((jfr h 117 r0) ≠ 0 → (jfr h 47 r1) ≠ 0 ∧ jin x2 (jln h (jfr h 47 r1)) ∧ ((jar h (jfr h 47 r1) (ixn x2)) ≠ 0 ∧ ((jfr h 136 (jar h (jfr h 47 r1) (ixn x2))) ≠ 0 ∧ (cJ5_equals D d (jfr h 136 (jar h (jfr h 47 r1) (ixn x2))) (jfr h 117 r0) h (pI D h (fun v_23 h_21 => (¬ v_23 = 0 → W_X30_check_44 D d Q K7 r0 r1 x2 h_21) ∧ (v_23 = 0 → W_X30_check_108 D d Q K7 r0 r1 x2 h_21)) (jth Q)))))))))
theorem w_X30_check_7 {D : JD} {d : Nat} {Q : JO → JH → Prop} {K7 : Nat → Nat → Int32 → JH → Prop} {r0 : Nat} {r1 : Nat} {x2 : Int32} {h : JH} (hK7 : ∀ (r0 : Nat) (r1 : Nat) (x2 : Int32) (h : JH), K7 r0 r1 x2 h → JW D (d + 1) mX30_check 7 [some (vR 24 r0), some (vR 6 r1), some (vI x2), none] [] h Q) (w : W_X30_check_7 D d Q K7 r0 r1 x2 h) : JW D (d + 1) mX30_check 7 [some (vR 24 r0), some (vR 6 r1), some (vI x2), none] [] h Q := by
  unfold W_X30_check_7 at w
  refine jw_iload_n (pc' := 8) rfl rfl ?_
  refine jw_aload_n (pc' := 9) rfl rfl ?_
  obtain ⟨g_1, w⟩ := w
  refine jw_getI (pc' := 12) (F := 48) rfl rfl rfl rfl g_1 ?_
  refine jw_icmp_ge (tgt := 114) (pc' := 15) rfl rfl (fun c_2 => ?_) (fun c_2 => ?_)
  · replace w := w.1 c_2
    refine jw_aload_n (pc' := 115) rfl rfl ?_
    obtain ⟨g_3, w⟩ := w
    refine jw_getI (pc' := 118) (F := 119) rfl rfl rfl rfl g_3 ?_
    refine jw_if_ge (tgt := 139) (pc' := 121) rfl rfl (fun c_4 => ?_) (fun c_4 => ?_)
    · replace w := w.1 c_4
      refine jw_aload_n (pc' := 140) rfl rfl ?_
      refine jw_aload_n (pc' := 141) rfl rfl ?_
      refine jw_getR (pc' := 144) (F := 47) (t' := 141) rfl rfl rfl rfl rfl g_1 ?_
      refine jw_aload_n (pc' := 145) rfl rfl ?_
      refine jw_getI (pc' := 148) (F := 119) rfl rfl rfl rfl g_3 ?_
      obtain ⟨g_5, w⟩ := w
      obtain ⟨g_6, w⟩ := w
      refine jw_aald (pc' := 149) (t' := 31) rfl rfl rfl rfl g_5 g_6.ix g_6.2 ?_
      obtain ⟨g_7, w⟩ := w
      refine jw_getR (pc' := 152) (F := 138) (t' := 5) rfl rfl rfl rfl rfl g_7 ?_
      obtain ⟨g_8, w⟩ := w
      refine jw_getR (pc' := 155) (F := 43) (t' := 82) rfl rfl rfl rfl rfl g_8 ?_
      refine jw_aload_n (pc' := 156) rfl rfl ?_
      refine jw_getI (pc' := 159) (F := 120) rfl rfl rfl rfl g_3 ?_
      obtain ⟨g_9, w⟩ := w
      obtain ⟨g_10, w⟩ := w
      refine jw_aald (pc' := 160) (t' := 16) rfl rfl rfl rfl g_9 g_10.ix g_10.2 ?_
      obtain ⟨g_11, w⟩ := w
      refine jw_getR (pc' := 163) (F := 93) (t' := 52) rfl rfl rfl rfl rfl g_11 ?_
      refine jw_putR' (pc' := 166) (F := 109) rfl rfl rfl (Or.inr rfl) (Or.inl rfl) rfl rfl rfl g_3 (fun h_12 e_13 => ?_)
      replace w := w h_12 e_13
      refine jw_aload_n (pc' := 167) rfl rfl ?_
      refine jw_getR (pc' := 170) (F := 109) (t' := 52) rfl rfl rfl rfl rfl g_3 ?_
      exact jw_areturn rfl rfl rfl rfl rfl w
    · replace w := w.2 c_4
      refine jw_aload_n (pc' := 122) rfl rfl ?_
      refine jw_getR (pc' := 125) (F := 117) (t' := 64) rfl rfl rfl rfl rfl g_3 ?_
      refine jw_ifnull (tgt := 133) (pc' := 128) rfl rfl (fun c_14 => ?_) (fun c_14 => ?_)
      · replace w := w.1 c_14
        refine jw_ldcS (pc' := 135) rfl rfl rfl rfl ?_
        refine jw_gen (ls' := [none, none, none, none]) (st' := [vR 51 (jcs D 164)]) (trivial) (And.intro (Or.inl rfl) (trivial)) ?_
        exact w_X30_check_135 w
      · replace w := w.2 c_14
        refine jw_ldcS (pc' := 130) rfl rfl rfl rfl ?_
        refine jw_goto (pc' := 135) rfl rfl ?_
        refine jw_gen (ls' := [none, none, none, none]) (st' := [vR 51 (jcs D 166)]) (trivial) (And.intro (Or.inl rfl) (trivial)) ?_
        exact w_X30_check_135 w
  · replace w := w.2 c_2
    refine jw_aload_n (pc' := 16) rfl rfl ?_
    obtain ⟨g_15, w⟩ := w
    refine jw_getR (pc' := 19) (F := 117) (t' := 64) rfl rfl rfl rfl rfl g_15 ?_
    refine jw_ifnull (tgt := 44) (pc' := 22) rfl rfl (fun c_16 => ?_) (fun c_16 => ?_)
    · replace w := w.1 c_16
      exact w_X30_check_44 hK7 w
    · replace w := w.2 c_16
      refine jw_aload_n (pc' := 23) rfl rfl ?_
      refine jw_getR (pc' := 26) (F := 47) (t' := 141) rfl rfl rfl rfl rfl g_1 ?_
      refine jw_iload_n (pc' := 27) rfl rfl ?_
      obtain ⟨g_17, w⟩ := w
      obtain ⟨g_18, w⟩ := w
      refine jw_aald (pc' := 28) (t' := 31) rfl rfl rfl rfl g_17 g_18.ix g_18.2 ?_
      obtain ⟨g_19, w⟩ := w
      refine jw_getR (pc' := 31) (F := 136) (t' := 64) rfl rfl rfl rfl rfl g_19 ?_
      refine jw_aload_n (pc' := 32) rfl rfl ?_
      refine jw_getR (pc' := 35) (F := 117) (t' := 64) rfl rfl rfl rfl rfl g_15 ?_
      obtain ⟨g_20, w⟩ := w
      refine jw_cI (st := []) (sa := [vR 64 (jfr h 136 (jar h (jfr h 47 r1) (ixn x2))), vR 64 (jfr h 117 r0)]) okJ5_equals rfl rfl rfl rfl rfl rfl (jstp_virtual (sa := [vR 64 (jfr h 117 r0)]) (st := []) (k := 0) rfl rfl sJ5_equals okJ5_equals g_20 (one64.k g_20) rfl rfl) w (fun v_23 h_21 _ _ w => ?_)
      refine jw_if_ne (tgt := 44) (pc' := 41) rfl rfl (fun c_24 => ?_) (fun c_24 => ?_)
      · replace w := w.1 c_24
        exact w_X30_check_44 hK7 w
      · replace w := w.2 c_24
        refine jw_goto (pc' := 108) rfl rfl ?_
        exact w_X30_check_108 hK7 w
def L_X30_check_7 (D : JD) (d : Nat) (Q : JO → JH → Prop) : Nat → Nat → Nat → Int32 → JH → Prop
  | 0 => fun _ _ _ _ => False
  | n + 1 => fun r0 r1 x2 h => W_X30_check_7 D d Q (L_X30_check_7 D d Q n) r0 r1 x2 h
theorem l_X30_check_7 {D : JD} {d : Nat} {Q : JO → JH → Prop} : ∀ (n : Nat) (r0 : Nat) (r1 : Nat) (x2 : Int32) (h : JH), L_X30_check_7 D d Q n r0 r1 x2 h → JW D (d + 1) mX30_check 7 [some (vR 24 r0), some (vR 6 r1), some (vI x2), none] [] h Q := by
  intro n
  induction n with
  | zero => intro _ _ _ _ w; exact w.elim
  | succ n ih => intro _ _ _ h w; exact w_X30_check_7 ih w
def W_X30_check_0 (D : JD) (d : Nat) (Q : JO → JH → Prop) (r0 : Nat) (r1 : Nat) (h : JH) : Prop :=
  r0 ≠ 0 ∧ ∀ h_2 : JH, h_2 = wfi h 119 r0 (-1 : Int32) → (∃ n, L_X30_check_7 D d Q n r0 r1 (0 : Int32) h_2)
theorem w_X30_check_0 {D : JD} {d : Nat} {Q : JO → JH → Prop} {r0 : Nat} {r1 : Nat} {h : JH} (w : W_X30_check_0 D d Q r0 r1 h) : JW D (d + 1) mX30_check 0 [some (vR 24 r0), some (vR 6 r1), none, none] [] h Q := by
  unfold W_X30_check_0 at w
  refine jw_aload_n (pc' := 1) rfl rfl ?_
  refine jw_iconst (pc' := 2) (x := (-1 : Int32)) rfl rfl ?_
  obtain ⟨g_1, w⟩ := w
  refine jw_putI' (pc' := 5) (F := 119) rfl rfl rfl (Or.inr rfl) (Or.inl rfl) rfl (rfl) (rfl) rfl g_1 (fun h_2 e_3 => ?_)
  replace w := w h_2 e_3
  refine jw_iconst (pc' := 6) (x := (0 : Int32)) rfl rfl ?_
  refine jw_istore_n (pc' := 7) (ls' := [some (vR 24 r0), some (vR 6 r1), some (vI (0 : Int32)), none]) rfl (by decide) rfl ?_
  obtain ⟨n, w⟩ := w
  exact l_X30_check_7 n _ _ _ _ w
def T_X30_check (D : JD) (d : Nat) (Q : JO → JH → Prop) (r0 : Nat) (r1 : Nat) (h : JH) : Prop := W_X30_check_0 D d Q r0 r1 h
theorem t_X30_check {D : JD} {d : Nat} {Q : JO → JH → Prop} {r0 : Nat} {r1 : Nat} {h : JH} (w : T_X30_check D d Q r0 r1 h) : cX30_check D (d + 1) r0 r1 h Q := by
  unfold T_X30_check at w
  unfold cX30_check
  exact w_X30_check_0 w
def W_X30_like_41 (D : JD) (d : Nat) (Q : JO → JH → Prop) (s0 : Int32) (h : JH) : Prop :=
  jbo s0 ∧ (Q (.inl (some (vI s0))) h)
theorem w_X30_like_41 {D : JD} {d : Nat} {Q : JO → JH → Prop} {s0 : Int32} {h : JH} (w : W_X30_like_41 D d Q s0 h) : JW D (d + 1) mX30_like 41 [none, none, none] [vI s0] h Q := by
  unfold W_X30_like_41 at w
  obtain ⟨g_1, w⟩ := w
  exact jw_ireturn rfl rfl (g_1.nr) w
def W_X30_like_40 (D : JD) (d : Nat) (Q : JO → JH → Prop) (h : JH) : Prop :=
  W_X30_like_41 D d Q (0 : Int32) h
theorem w_X30_like_40 {D : JD} {d : Nat} {Q : JO → JH → Prop} {h : JH} (w : W_X30_like_40 D d Q h) : JW D (d + 1) mX30_like 40 [none, none, none] [] h Q := by
  unfold W_X30_like_40 at w
  refine jw_iconst (pc' := 41) (x := (0 : Int32)) rfl rfl ?_
  exact w_X30_like_41 w
def W_X30_like_0 (D : JD) (d : Nat) (Q : JO → JH → Prop) (r0 : Nat) (r1 : Nat) (h : JH) : Prop :=
  ((r1 ≠ 0 ∧ jkd h r1 = 24) → (r1 = 0 ∨ jkd h r1 = 24) ∧ (r1 ≠ 0 ∧ (r0 ≠ 0 ∧ ((¬ (jfi h 119 r1) = (jfi h 119 r0) → W_X30_like_40 D d Q h) ∧ ((jfi h 119 r1) = (jfi h 119 r0) → (¬ (jfi h 120 r1) = (jfi h 120 r0) → W_X30_like_40 D d Q h) ∧ ((jfi h 120 r1) = (jfi h 120 r0) → W_X30_like_41 D d Q (1 : Int32) h)))))) ∧ (¬ (r1 ≠ 0 ∧ jkd h r1 = 24) → Q (.inl (some (vI (0 : Int32)))) h)
theorem w_X30_like_0 {D : JD} {d : Nat} {Q : JO → JH → Prop} {r0 : Nat} {r1 : Nat} {h : JH} (w : W_X30_like_0 D d Q r0 r1 h) : JW D (d + 1) mX30_like 0 [some (vR 24 r0), some (vR 55 r1), none] [] h Q := by
  unfold W_X30_like_0 at w
  refine jw_aload_n (pc' := 1) rfl rfl ?_
  refine jw_inst (pc' := 4) (t := 55) (kt := 24) rfl rfl rfl rfl (by decide +kernel) (fun c_1 => ?_) (fun c_1 => ?_)
  · replace w := w.1 c_1
    refine jw_if_ne (tgt := 9) (pc' := 7) rfl rfl (fun _ => ?_) (fun c_2 => absurd c_2 (by decide))
    refine jw_aload_n (pc' := 10) rfl rfl ?_
    obtain ⟨g_3, w⟩ := w
    refine jw_cast (pc' := 13) (t2 := 24) rfl rfl rfl rfl g_3 ?_
    refine jw_astore_n (pc' := 14) (ls' := [some (vR 24 r0), some (vR 55 r1), some (vR 24 r1)]) rfl (by decide) rfl ?_
    refine jw_aload_n (pc' := 15) rfl rfl ?_
    obtain ⟨g_4, w⟩ := w
    refine jw_getI (pc' := 18) (F := 119) rfl rfl rfl rfl g_4 ?_
    refine jw_aload_n (pc' := 19) rfl rfl ?_
    obtain ⟨g_5, w⟩ := w
    refine jw_getI (pc' := 22) (F := 119) rfl rfl rfl rfl g_5 ?_
    refine jw_icmp_ne (tgt := 40) (pc' := 25) rfl rfl (fun c_6 => ?_) (fun c_6 => ?_)
    · replace w := w.1 c_6
      refine jw_gen (ls' := [none, none, none]) (st' := []) (trivial) (trivial) ?_
      exact w_X30_like_40 w
    · replace w := w.2 c_6
      refine jw_aload_n (pc' := 26) rfl rfl ?_
      refine jw_getI (pc' := 29) (F := 120) rfl rfl rfl rfl g_4 ?_
      refine jw_aload_n (pc' := 30) rfl rfl ?_
      refine jw_getI (pc' := 33) (F := 120) rfl rfl rfl rfl g_5 ?_
      refine jw_icmp_ne (tgt := 40) (pc' := 36) rfl rfl (fun c_7 => ?_) (fun c_7 => ?_)
      · replace w := w.1 c_7
        refine jw_gen (ls' := [none, none, none]) (st' := []) (trivial) (trivial) ?_
        exact w_X30_like_40 w
      · replace w := w.2 c_7
        refine jw_iconst (pc' := 37) (x := (1 : Int32)) rfl rfl ?_
        refine jw_goto (pc' := 41) rfl rfl ?_
        refine jw_gen (ls' := [none, none, none]) (st' := [vI (1 : Int32)]) (trivial) (And.intro (Or.inl rfl) (trivial)) ?_
        exact w_X30_like_41 w
  · replace w := w.2 c_1
    refine jw_if_ne (tgt := 9) (pc' := 7) rfl rfl (fun c_8 => absurd c_8 (by decide)) (fun _ => ?_)
    refine jw_iconst (pc' := 8) (x := (0 : Int32)) rfl rfl ?_
    exact jw_ireturn rfl rfl (rfl) w
def T_X30_like (D : JD) (d : Nat) (Q : JO → JH → Prop) (r0 : Nat) (r1 : Nat) (h : JH) : Prop := W_X30_like_0 D d Q r0 r1 h
theorem t_X30_like {D : JD} {d : Nat} {Q : JO → JH → Prop} {r0 : Nat} {r1 : Nat} {h : JH} (w : T_X30_like D d Q r0 r1 h) : cX30_like D (d + 1) r0 r1 h Q := by
  unfold T_X30_like at w
  unfold cX30_like
  exact w_X30_like_0 w
def W_X30_ungrouped_0 (D : JD) (d : Nat) (Q : JO → JH → Prop) (h : JH) : Prop :=
  cX1_fault D d (jcs D 176) h (pR D h 9 (fun v_3 h_1 => v_3 ≠ 0 ∧ (Q (.inr v_3) h_1)) (jth Q))
theorem w_X30_ungrouped_0 {D : JD} {d : Nat} {Q : JO → JH → Prop} {h : JH} (w : W_X30_ungrouped_0 D d Q h) : JW D (d + 1) mX30_ungrouped 0 [none, none] [] h Q := by
  unfold W_X30_ungrouped_0 at w
  refine jw_ldcS (pc' := 2) rfl rfl rfl rfl ?_
  refine jw_cR (st := []) (sa := [vR 51 (jcs D 176)]) okX1_fault rfl rfl rfl rfl rfl rfl (jstp_static (sa := [vR 51 (jcs D 176)]) (st := []) rfl rfl sX1_fault okX1_fault rfl rfl) w (fun v_3 h_1 _ _ _ w => ?_)
  obtain ⟨g_4, w⟩ := w
  exact jw_athrow rfl rfl g_4 w
def T_X30_ungrouped (D : JD) (d : Nat) (Q : JO → JH → Prop) (r0 : Nat) (r1 : Nat) (h : JH) : Prop := W_X30_ungrouped_0 D d Q h
theorem t_X30_ungrouped {D : JD} {d : Nat} {Q : JO → JH → Prop} {r0 : Nat} {r1 : Nat} {h : JH} (w : T_X30_ungrouped D d Q r0 r1 h) : cX30_ungrouped D (d + 1) r0 r1 h Q := by
  unfold T_X30_ungrouped at w
  unfold cX30_ungrouped
  refine jw_gen (ls' := [none, none]) (st' := []) (trivial) (trivial) ?_
  exact w_X30_ungrouped_0 w
def W_X30_title_0 (D : JD) (d : Nat) (Q : JO → JH → Prop) (r0 : Nat) (h : JH) : Prop :=
  r0 ≠ 0 ∧ (Q (.inl (some (vR 64 (jfr h 118 r0)))) h)
theorem w_X30_title_0 {D : JD} {d : Nat} {Q : JO → JH → Prop} {r0 : Nat} {h : JH} (w : W_X30_title_0 D d Q r0 h) : JW D (d + 1) mX30_title 0 [some (vR 24 r0)] [] h Q := by
  unfold W_X30_title_0 at w
  refine jw_aload_n (pc' := 1) rfl rfl ?_
  obtain ⟨g_1, w⟩ := w
  refine jw_getR (pc' := 4) (F := 118) (t' := 64) rfl rfl rfl rfl rfl g_1 ?_
  exact jw_areturn rfl rfl rfl rfl rfl w
def T_X30_title (D : JD) (d : Nat) (Q : JO → JH → Prop) (r0 : Nat) (h : JH) : Prop := W_X30_title_0 D d Q r0 h
theorem t_X30_title {D : JD} {d : Nat} {Q : JO → JH → Prop} {r0 : Nat} {h : JH} (w : T_X30_title D d Q r0 h) : cX30_title D (d + 1) r0 h Q := by
  unfold T_X30_title at w
  unfold cX30_title
  exact w_X30_title_0 w
def W_X30_at_30 (D : JD) (d : Nat) (Q : JO → JH → Prop) (q0 : Nat) (h : JH) : Prop :=
  Q (.inl (some (vR 8 q0))) h
theorem w_X30_at_30 {D : JD} {d : Nat} {Q : JO → JH → Prop} {q0 : Nat} {h : JH} (w : W_X30_at_30 D d Q q0 h) : JW D (d + 1) mX30_at 30 [none, none, none] [vR 8 q0] h Q := by
  unfold W_X30_at_30 at w
  exact jw_areturn rfl rfl rfl rfl rfl w
def W_X30_at_0 (D : JD) (d : Nat) (Q : JO → JH → Prop) (r0 : Nat) (r1 : Nat) (h : JH) : Prop :=
  r1 ≠ 0 ∧ (r0 ≠ 0 ∧ ((jfr h 56 r1) ≠ 0 ∧ jin (jfi h 119 r0) (jln h (jfr h 56 r1)) ∧ (((jar h (jfr h 56 r1) (ixn (jfi h 119 r0))) ≠ 0 → jin (jfi h 120 r0) (jln h (jar h (jfr h 56 r1) (ixn (jfi h 119 r0)))) ∧ (W_X30_at_30 D d Q (jar h (jar h (jfr h 56 r1) (ixn (jfi h 119 r0))) (ixn (jfi h 120 r0))) h)) ∧ ((jar h (jfr h 56 r1) (ixn (jfi h 119 r0))) = 0 → (jfr h 108 r0) ≠ 0 ∧ (cX14_none D d (jfr h 108 r0) h (pR D h 8 (fun v_10 h_8 => W_X30_at_30 D d Q v_10 h_8) (jth Q)))))))
theorem w_X30_at_0 {D : JD} {d : Nat} {Q : JO → JH → Prop} {r0 : Nat} {r1 : Nat} {h : JH} (w : W_X30_at_0 D d Q r0 r1 h) : JW D (d + 1) mX30_at 0 [some (vR 24 r0), some (vR 6 r1), none] [] h Q := by
  unfold W_X30_at_0 at w
  refine jw_aload_n (pc' := 1) rfl rfl ?_
  obtain ⟨g_1, w⟩ := w
  refine jw_getR (pc' := 4) (F := 56) (t' := 142) rfl rfl rfl rfl rfl g_1 ?_
  refine jw_aload_n (pc' := 5) rfl rfl ?_
  obtain ⟨g_2, w⟩ := w
  refine jw_getI (pc' := 8) (F := 119) rfl rfl rfl rfl g_2 ?_
  obtain ⟨g_3, w⟩ := w
  obtain ⟨g_4, w⟩ := w
  refine jw_aald (pc' := 9) (t' := 76) rfl rfl rfl rfl g_3 g_4.ix g_4.2 ?_
  refine jw_astore_n (pc' := 10) (ls' := [some (vR 24 r0), some (vR 6 r1), some (vR 76 (jar h (jfr h 56 r1) (ixn (jfi h 119 r0))))]) rfl (by decide) rfl ?_
  refine jw_aload_n (pc' := 11) rfl rfl ?_
  refine jw_ifnonnull (tgt := 24) (pc' := 14) rfl rfl (fun c_5 => ?_) (fun c_5 => ?_)
  · replace w := w.1 c_5
    refine jw_aload_n (pc' := 25) rfl rfl ?_
    refine jw_aload_n (pc' := 26) rfl rfl ?_
    refine jw_getI (pc' := 29) (F := 120) rfl rfl rfl rfl g_2 ?_
    obtain ⟨g_6, w⟩ := w
    refine jw_aald (pc' := 30) (t' := 8) rfl rfl rfl rfl c_5 g_6.ix g_6.2 ?_
    refine jw_gen (ls' := [none, none, none]) (st' := [vR 8 (jar h (jar h (jfr h 56 r1) (ixn (jfi h 119 r0))) (ixn (jfi h 120 r0)))]) (trivial) (And.intro (Or.inl rfl) (trivial)) ?_
    exact w_X30_at_30 w
  · replace w := w.2 c_5
    refine jw_aload_n (pc' := 15) rfl rfl ?_
    refine jw_getR (pc' := 18) (F := 108) (t' := 98) rfl rfl rfl rfl rfl g_2 ?_
    obtain ⟨g_7, w⟩ := w
    refine jw_cR (st := []) (sa := [vR 98 (jfr h 108 r0)]) okX14_none rfl rfl rfl rfl rfl rfl (jstp_virtual (sa := []) (st := []) (k := 0) rfl rfl sX14_none okX14_none g_7 (one98.k g_7) rfl rfl) w (fun v_10 h_8 _ _ _ w => ?_)
    refine jw_goto (pc' := 30) rfl rfl ?_
    refine jw_gen (ls' := [none, none, none]) (st' := [vR 8 v_10]) (trivial) (And.intro (Or.inl rfl) (trivial)) ?_
    exact w_X30_at_30 w
def T_X30_at (D : JD) (d : Nat) (Q : JO → JH → Prop) (r0 : Nat) (r1 : Nat) (h : JH) : Prop := W_X30_at_0 D d Q r0 r1 h
theorem t_X30_at {D : JD} {d : Nat} {Q : JO → JH → Prop} {r0 : Nat} {r1 : Nat} {h : JH} (w : T_X30_at D d Q r0 r1 h) : cX30_at D (d + 1) r0 r1 h Q := by
  unfold T_X30_at at w
  unfold cX30_at
  exact w_X30_at_0 w
def W_X31_init_31 (D : JD) (d : Nat) (Q : JO → JH → Prop) (q0 : Nat) (q1 : Nat) (h : JH) : Prop :=
  q0 ≠ 0 ∧ ∀ h_2 : JH, h_2 = wfr h 109 q0 q1 → (Q (.inl none) h_2)
theorem w_X31_init_31 {D : JD} {d : Nat} {Q : JO → JH → Prop} {q0 : Nat} {q1 : Nat} {h : JH} (w : W_X31_init_31 D d Q q0 q1 h) : JW D (d + 1) mX31_init 31 [none, none] [vR 52 q1, vR 25 q0] h Q := by
  unfold W_X31_init_31 at w
  obtain ⟨g_1, w⟩ := w
  refine jw_putR' (pc' := 34) (F := 109) rfl rfl rfl (Or.inr rfl) (Or.inl rfl) rfl rfl rfl g_1 (fun h_2 e_3 => ?_)
  replace w := w h_2 e_3
  exact jw_return rfl rfl w
def W_X31_init_0 (D : JD) (d : Nat) (Q : JO → JH → Prop) (r0 : Nat) (r1 : Nat) (h : JH) : Prop :=
  r0 ≠ 0 ∧ (cX24_init D d r0 h (pV D h (fun h_2 => (jfr h_2 108 r0) ≠ 0 ∧ (cX14_copy D d (jfr h_2 108 r0) r1 h_2 (pR D h_2 8 (fun v_8 h_6 => r1 ≠ 0 ∧ (cX14_isEmpty D d r1 h_6 (pI D h_6 (fun v_12 h_10 => (v_12 = 0 → W_X31_init_31 D d Q r0 (jfr h_10 64 r1) h_10) ∧ (¬ v_12 = 0 → W_X31_init_31 D d Q r0 (jcs D 345) h_10)) (jth Q)))) (jth Q)))) (jth Q)))
theorem w_X31_init_0 {D : JD} {d : Nat} {Q : JO → JH → Prop} {r0 : Nat} {r1 : Nat} {h : JH} (w : W_X31_init_0 D d Q r0 r1 h) : JW D (d + 1) mX31_init 0 [some (vR 25 r0), some (vR 8 r1)] [] h Q := by
  unfold W_X31_init_0 at w
  refine jw_aload_n (pc' := 1) rfl rfl ?_
  obtain ⟨g_1, w⟩ := w
  refine jw_cV (st := []) (sa := [vR 25 r0]) okX24_init rfl rfl rfl rfl rfl rfl (jstp_init (sa := []) (st := []) rfl rfl sX24_init okX24_init (lw_g (jtb_mem (c := 7) (i := 95) rfl) rfl) g_1 rfl rfl) w (fun h_2 _ _ w => ?_)
  refine jw_aload_n (pc' := 5) rfl rfl ?_
  refine jw_getR (pc' := 8) (F := 108) (t' := 98) rfl rfl rfl rfl rfl g_1 ?_
  refine jw_aload_n (pc' := 9) rfl rfl ?_
  obtain ⟨g_5, w⟩ := w
  refine jw_cR (st := []) (sa := [vR 98 (jfr h_2 108 r0), vR 8 r1]) okX14_copy rfl rfl rfl rfl rfl rfl (jstp_virtual (sa := [vR 8 r1]) (st := []) (k := 0) rfl rfl sX14_copy okX14_copy g_5 (one98.k g_5) rfl rfl) w (fun v_8 h_6 _ _ _ w => ?_)
  refine jw_pop (pc' := 13) rfl rfl ?_
  refine jw_aload_n (pc' := 14) rfl rfl ?_
  refine jw_aload_n (pc' := 15) rfl rfl ?_
  obtain ⟨g_9, w⟩ := w
  refine jw_cI (st := [vR 25 r0]) (sa := [vR 8 r1]) okX14_isEmpty rfl rfl rfl rfl rfl rfl (jstp_virtual (sa := []) (st := [vR 25 r0]) (k := 0) rfl rfl sX14_isEmpty okX14_isEmpty g_9 (one8.k g_9) rfl rfl) w (fun v_12 h_10 _ _ w => ?_)
  refine jw_if_eq (tgt := 27) (pc' := 21) rfl rfl (fun c_13 => ?_) (fun c_13 => ?_)
  · replace w := w.1 c_13
    refine jw_aload_n (pc' := 28) rfl rfl ?_
    refine jw_getR (pc' := 31) (F := 64) (t' := 52) rfl rfl rfl rfl rfl g_9 ?_
    refine jw_gen (ls' := [none, none]) (st' := [vR 52 (jfr h_10 64 r1), vR 25 r0]) (trivial) (And.intro (Or.inl rfl) (And.intro (Or.inl rfl) (trivial))) ?_
    exact w_X31_init_31 w
  · replace w := w.2 c_13
    refine jw_getsR (pc' := 24) rfl rfl rfl rfl ?_
    refine jw_goto (pc' := 31) rfl rfl ?_
    refine jw_gen (ls' := [none, none]) (st' := [vR 52 (jcs D 345), vR 25 r0]) (trivial) (And.intro (Or.inl rfl) (And.intro (Or.inl rfl) (trivial))) ?_
    exact w_X31_init_31 w
def T_X31_init (D : JD) (d : Nat) (Q : JO → JH → Prop) (r0 : Nat) (r1 : Nat) (h : JH) : Prop := W_X31_init_0 D d Q r0 r1 h
theorem t_X31_init {D : JD} {d : Nat} {Q : JO → JH → Prop} {r0 : Nat} {r1 : Nat} {h : JH} (w : T_X31_init D d Q r0 r1 h) : cX31_init D (d + 1) r0 r1 h Q := by
  unfold T_X31_init at w
  unfold cX31_init
  exact w_X31_init_0 w
def W_X31_check_0 (D : JD) (d : Nat) (Q : JO → JH → Prop) (r0 : Nat) (h : JH) : Prop :=
  r0 ≠ 0 ∧ (Q (.inl (some (vR 52 (jfr h 109 r0)))) h)
theorem w_X31_check_0 {D : JD} {d : Nat} {Q : JO → JH → Prop} {r0 : Nat} {h : JH} (w : W_X31_check_0 D d Q r0 h) : JW D (d + 1) mX31_check 0 [some (vR 25 r0), none] [] h Q := by
  unfold W_X31_check_0 at w
  refine jw_aload_n (pc' := 1) rfl rfl ?_
  obtain ⟨g_1, w⟩ := w
  refine jw_getR (pc' := 4) (F := 109) (t' := 52) rfl rfl rfl rfl rfl g_1 ?_
  exact jw_areturn rfl rfl rfl rfl rfl w
def T_X31_check (D : JD) (d : Nat) (Q : JO → JH → Prop) (r0 : Nat) (r1 : Nat) (h : JH) : Prop := W_X31_check_0 D d Q r0 h
theorem t_X31_check {D : JD} {d : Nat} {Q : JO → JH → Prop} {r0 : Nat} {r1 : Nat} {h : JH} (w : T_X31_check D d Q r0 r1 h) : cX31_check D (d + 1) r0 r1 h Q := by
  unfold T_X31_check at w
  unfold cX31_check
  refine jw_gen (ls' := [some (vR 25 r0), none]) (st' := []) (And.intro (Or.inl rfl) (trivial)) (trivial) ?_
  exact w_X31_check_0 w
def W_X31_like_26 (D : JD) (d : Nat) (Q : JO → JH → Prop) (s0 : Int32) (h : JH) : Prop :=
  jbo s0 ∧ (Q (.inl (some (vI s0))) h)
theorem w_X31_like_26 {D : JD} {d : Nat} {Q : JO → JH → Prop} {s0 : Int32} {h : JH} (w : W_X31_like_26 D d Q s0 h) : JW D (d + 1) mX31_like 26 [none, none] [vI s0] h Q := by
  unfold W_X31_like_26 at w
  obtain ⟨g_1, w⟩ := w
  exact jw_ireturn rfl rfl (g_1.nr) w
def W_X31_like_25 (D : JD) (d : Nat) (Q : JO → JH → Prop) (h : JH) : Prop :=
  W_X31_like_26 D d Q (0 : Int32) h
theorem w_X31_like_25 {D : JD} {d : Nat} {Q : JO → JH → Prop} {h : JH} (w : W_X31_like_25 D d Q h) : JW D (d + 1) mX31_like 25 [none, none] [] h Q := by
  unfold W_X31_like_25 at w
  refine jw_iconst (pc' := 26) (x := (0 : Int32)) rfl rfl ?_
  exact w_X31_like_26 w
def W_X31_like_0 (D : JD) (d : Nat) (Q : JO → JH → Prop) (r0 : Nat) (r1 : Nat) (h : JH) : Prop :=
  ((r1 ≠ 0 ∧ jkd h r1 = 25) → r0 ≠ 0 ∧ (r1 ≠ 0 ∧ ((jfr h 108 r0) ≠ 0 ∧ (cX14_alike D d (jfr h 108 r0) (jfr h 108 r1) h (pI D h (fun v_8 h_6 => (v_8 = 0 → W_X31_like_25 D d Q h_6) ∧ (¬ v_8 = 0 → W_X31_like_26 D d Q (1 : Int32) h_6)) (jth Q)))))) ∧ (¬ (r1 ≠ 0 ∧ jkd h r1 = 25) → W_X31_like_25 D d Q h)
theorem w_X31_like_0 {D : JD} {d : Nat} {Q : JO → JH → Prop} {r0 : Nat} {r1 : Nat} {h : JH} (w : W_X31_like_0 D d Q r0 r1 h) : JW D (d + 1) mX31_like 0 [some (vR 25 r0), some (vR 55 r1)] [] h Q := by
  unfold W_X31_like_0 at w
  refine jw_aload_n (pc' := 1) rfl rfl ?_
  refine jw_inst (pc' := 4) (t := 55) (kt := 25) rfl rfl rfl rfl (by decide +kernel) (fun c_1 => ?_) (fun c_1 => ?_)
  · replace w := w.1 c_1
    refine jw_if_eq (tgt := 25) (pc' := 7) rfl rfl (fun c_2 => absurd c_2 (by decide)) (fun _ => ?_)
    refine jw_aload_n (pc' := 8) rfl rfl ?_
    obtain ⟨g_3, w⟩ := w
    refine jw_getR (pc' := 11) (F := 108) (t' := 98) rfl rfl rfl rfl rfl g_3 ?_
    refine jw_aload_n (pc' := 12) rfl rfl ?_
    obtain ⟨g_4, w⟩ := w
    refine jw_getR (pc' := 15) (F := 108) (t' := 98) rfl rfl rfl rfl rfl g_4 ?_
    obtain ⟨g_5, w⟩ := w
    refine jw_cI (st := []) (sa := [vR 98 (jfr h 108 r0), vR 98 (jfr h 108 r1)]) okX14_alike rfl rfl rfl rfl rfl rfl (jstp_virtual (sa := [vR 98 (jfr h 108 r1)]) (st := []) (k := 0) rfl rfl sX14_alike okX14_alike g_5 (one98.k g_5) rfl rfl) w (fun v_8 h_6 _ _ w => ?_)
    refine jw_if_eq (tgt := 25) (pc' := 21) rfl rfl (fun c_9 => ?_) (fun c_9 => ?_)
    · replace w := w.1 c_9
      refine jw_gen (ls' := [none, none]) (st' := []) (trivial) (trivial) ?_
      exact w_X31_like_25 w
    · replace w := w.2 c_9
      refine jw_iconst (pc' := 22) (x := (1 : Int32)) rfl rfl ?_
      refine jw_goto (pc' := 26) rfl rfl ?_
      refine jw_gen (ls' := [none, none]) (st' := [vI (1 : Int32)]) (trivial) (And.intro (Or.inl rfl) (trivial)) ?_
      exact w_X31_like_26 w
  · replace w := w.2 c_1
    refine jw_if_eq (tgt := 25) (pc' := 7) rfl rfl (fun _ => ?_) (fun c_10 => absurd c_10 (by decide))
    refine jw_gen (ls' := [none, none]) (st' := []) (trivial) (trivial) ?_
    exact w_X31_like_25 w
def T_X31_like (D : JD) (d : Nat) (Q : JO → JH → Prop) (r0 : Nat) (r1 : Nat) (h : JH) : Prop := W_X31_like_0 D d Q r0 r1 h
theorem t_X31_like {D : JD} {d : Nat} {Q : JO → JH → Prop} {r0 : Nat} {r1 : Nat} {h : JH} (w : T_X31_like D d Q r0 r1 h) : cX31_like D (d + 1) r0 r1 h Q := by
  unfold T_X31_like at w
  unfold cX31_like
  exact w_X31_like_0 w
def W_X31_at_0 (D : JD) (d : Nat) (Q : JO → JH → Prop) (r0 : Nat) (h : JH) : Prop :=
  r0 ≠ 0 ∧ (Q (.inl (some (vR 8 (jfr h 108 r0)))) h)
theorem w_X31_at_0 {D : JD} {d : Nat} {Q : JO → JH → Prop} {r0 : Nat} {h : JH} (w : W_X31_at_0 D d Q r0 h) : JW D (d + 1) mX31_at 0 [some (vR 25 r0), none] [] h Q := by
  unfold W_X31_at_0 at w
  refine jw_aload_n (pc' := 1) rfl rfl ?_
  obtain ⟨g_1, w⟩ := w
  refine jw_getR (pc' := 4) (F := 108) (t' := 98) rfl rfl rfl rfl rfl g_1 ?_
  exact jw_areturn rfl rfl rfl rfl rfl w
def T_X31_at (D : JD) (d : Nat) (Q : JO → JH → Prop) (r0 : Nat) (r1 : Nat) (h : JH) : Prop := W_X31_at_0 D d Q r0 h
theorem t_X31_at {D : JD} {d : Nat} {Q : JO → JH → Prop} {r0 : Nat} {r1 : Nat} {h : JH} (w : T_X31_at D d Q r0 r1 h) : cX31_at D (d + 1) r0 r1 h Q := by
  unfold T_X31_at at w
  unfold cX31_at
  refine jw_gen (ls' := [some (vR 25 r0), none]) (st' := []) (And.intro (Or.inl rfl) (trivial)) (trivial) ?_
  exact w_X31_at_0 w
def W_X32_init_0 (D : JD) (d : Nat) (Q : JO → JH → Prop) (r0 : Nat) (x1 : Int32) (r2 : Nat) (h : JH) : Prop :=
  r0 ≠ 0 ∧ (cX24_init D d r0 h (pV D h (fun h_2 => jbo x1 ∧ ∀ h_6 : JH, h_6 = wfi h_2 121 r0 x1 → (∀ h_8 : JH, h_8 = wfr h_6 122 r0 r2 → (Q (.inl none) h_8))) (jth Q)))
theorem w_X32_init_0 {D : JD} {d : Nat} {Q : JO → JH → Prop} {r0 : Nat} {x1 : Int32} {r2 : Nat} {h : JH} (w : W_X32_init_0 D d Q r0 x1 r2 h) : JW D (d + 1) mX32_init 0 [some (vR 26 r0), some (vI x1), some (vR 55 r2)] [] h Q := by
  unfold W_X32_init_0 at w
  refine jw_aload_n (pc' := 1) rfl rfl ?_
  obtain ⟨g_1, w⟩ := w
  refine jw_cV (st := []) (sa := [vR 26 r0]) okX24_init rfl rfl rfl rfl rfl rfl (jstp_init (sa := []) (st := []) rfl rfl sX24_init okX24_init (lw_g (jtb_mem (c := 7) (i := 95) rfl) rfl) g_1 rfl rfl) w (fun h_2 _ _ w => ?_)
  refine jw_aload_n (pc' := 5) rfl rfl ?_
  refine jw_iload_n (pc' := 6) rfl rfl ?_
  obtain ⟨g_5, w⟩ := w
  refine jw_putI' (pc' := 9) (F := 121) rfl rfl rfl (Or.inr rfl) (Or.inr ⟨rfl, rfl⟩) rfl (g_5.nr) (g_5.ft) rfl g_1 (fun h_6 e_7 => ?_)
  replace w := w h_6 e_7
  refine jw_aload_n (pc' := 10) rfl rfl ?_
  refine jw_aload_n (pc' := 11) rfl rfl ?_
  refine jw_putR' (pc' := 14) (F := 122) rfl rfl rfl (Or.inr rfl) (Or.inr ⟨rfl, rfl⟩) rfl rfl rfl g_1 (fun h_8 e_9 => ?_)
  replace w := w h_8 e_9
  exact jw_return rfl rfl w
def T_X32_init (D : JD) (d : Nat) (Q : JO → JH → Prop) (r0 : Nat) (x1 : Int32) (r2 : Nat) (h : JH) : Prop := W_X32_init_0 D d Q r0 x1 r2 h
theorem t_X32_init {D : JD} {d : Nat} {Q : JO → JH → Prop} {r0 : Nat} {x1 : Int32} {r2 : Nat} {h : JH} (w : T_X32_init D d Q r0 x1 r2 h) : cX32_init D (d + 1) r0 x1 r2 h Q := by
  unfold T_X32_init at w
  unfold cX32_init
  exact w_X32_init_0 w
def W_X32_check_28 (D : JD) (d : Nat) (Q : JO → JH → Prop) (r0 : Nat) (q0 : Nat) (h : JH) : Prop :=
  r0 ≠ 0 ∧ (cX24_need D d q0 (jfr h 109 r0) h (pV D h (fun h_2 => Q (.inl (some (vR 52 (jfr h_2 109 r0)))) h_2) (jth Q)))
theorem w_X32_check_28 {D : JD} {d : Nat} {Q : JO → JH → Prop} {r0 : Nat} {q0 : Nat} {h : JH} (w : W_X32_check_28 D d Q r0 q0 h) : JW D (d + 1) mX32_check 28 [some (vR 26 r0), none] [vR 52 q0] h Q := by
  unfold W_X32_check_28 at w
  refine jw_aload_n (pc' := 29) rfl rfl ?_
  obtain ⟨g_1, w⟩ := w
  refine jw_getR (pc' := 32) (F := 109) (t' := 52) rfl rfl rfl rfl rfl g_1 ?_
  refine jw_cV (st := []) (sa := [vR 52 q0, vR 52 (jfr h 109 r0)]) okX24_need rfl rfl rfl rfl rfl rfl (jstp_staticUp (sa := [vR 52 q0, vR 52 (jfr h 109 r0)]) (st := []) rfl (lw_g (jtb_mem (c := 10) (i := 116) rfl) rfl) (lw_g (jtb_mem (c := 10) (i := 117) rfl) rfl) rfl sX24_need okX24_need rfl rfl) w (fun h_2 _ _ w => ?_)
  refine jw_aload_n (pc' := 36) rfl rfl ?_
  refine jw_getR (pc' := 39) (F := 109) (t' := 52) rfl rfl rfl rfl rfl g_1 ?_
  exact jw_areturn rfl rfl rfl rfl rfl w
def W_X32_check_17 (D : JD) (d : Nat) (Q : JO → JH → Prop) (r0 : Nat) (r1 : Nat) (q0 : Nat) (q1 : Nat) (h : JH) : Prop :=
  q0 ≠ 0 ∧ ∀ h_2 : JH, h_2 = wfr h 109 q0 q1 → (r0 ≠ 0 ∧ ((jfr h_2 122 r0) ≠ 0 ∧ (v55_check D d (jfr h_2 122 r0) r1 h_2 (pR D h_2 52 (fun v_8 h_6 => W_X32_check_28 D d Q r0 v_8 h_6) (jth Q)))))
theorem w_X32_check_17 {D : JD} {d : Nat} {Q : JO → JH → Prop} {r0 : Nat} {r1 : Nat} {q0 : Nat} {q1 : Nat} {h : JH} (w : W_X32_check_17 D d Q r0 r1 q0 q1 h) : JW D (d + 1) mX32_check 17 [some (vR 26 r0), some (vR 6 r1)] [vR 52 q1, vR 26 q0] h Q := by
  unfold W_X32_check_17 at w
  obtain ⟨g_1, w⟩ := w
  refine jw_putR' (pc' := 20) (F := 109) rfl rfl rfl (Or.inr rfl) (Or.inl rfl) rfl rfl rfl g_1 (fun h_2 e_3 => ?_)
  replace w := w h_2 e_3
  refine jw_aload_n (pc' := 21) rfl rfl ?_
  obtain ⟨g_4, w⟩ := w
  refine jw_getR (pc' := 24) (F := 122) (t' := 55) rfl rfl rfl rfl rfl g_4 ?_
  refine jw_aload_n (pc' := 25) rfl rfl ?_
  obtain ⟨g_5, w⟩ := w
  refine JW.inv (fun hI => JW.oks (fun ho => ?_))
  have hkd := und55.k hI (ho (vR 55 (jfr h_2 122 r0)) (by simp)) g_5
  simp only [List.mem_cons, List.not_mem_nil, or_false] at hkd
  clear ho hI
  rcases hkd with e_9 | e_9 | e_9 | e_9 | e_9 | e_9 | e_9 | e_9 | e_9 | e_9
  · refine jw_gen (ls' := _) (st' := [vR 6 r1, vR 20 (jfr h_2 122 r0)]) (jgl_rf _ _) (And.intro (Or.inl rfl) (And.intro (Or.inr ⟨_, _, _, rfl, rfl, Or.inr (Or.inr (by rw [e_9]; rfl))⟩) (jgs_rf _ _))) ?_
    refine jw_cR (st := []) (sa := [vR 20 (jfr h_2 122 r0), vR 6 r1]) okX25_check rfl rfl rfl rfl rfl rfl (jstp_up (sa := [vR 6 r1]) (st := []) rfl (lw_g (jtb_mem (c := 10) (i := 93) rfl) rfl) um18 okX25_check g_5 (fun _ _ => by rw [e_9]; exact ⟨rfl, rfl⟩) rfl rfl) (w.1 e_9) (fun v_8 h_6 _ _ _ w => ?_)
    refine jw_gen (ls' := [some (vR 26 r0), none]) (st' := [vR 52 v_8]) (And.intro (Or.inl rfl) (trivial)) (And.intro (Or.inl rfl) (trivial)) ?_
    exact w_X32_check_28 w
  · refine jw_gen (ls' := _) (st' := [vR 6 r1, vR 21 (jfr h_2 122 r0)]) (jgl_rf _ _) (And.intro (Or.inl rfl) (And.intro (Or.inr ⟨_, _, _, rfl, rfl, Or.inr (Or.inr (by rw [e_9]; rfl))⟩) (jgs_rf _ _))) ?_
    refine jw_cR (st := []) (sa := [vR 21 (jfr h_2 122 r0), vR 6 r1]) okX27_check rfl rfl rfl rfl rfl rfl (jstp_up (sa := [vR 6 r1]) (st := []) rfl (lw_g (jtb_mem (c := 10) (i := 93) rfl) rfl) um19 okX27_check g_5 (fun _ _ => by rw [e_9]; exact ⟨rfl, rfl⟩) rfl rfl) (w.2.1 e_9) (fun v_8 h_6 _ _ _ w => ?_)
    refine jw_gen (ls' := [some (vR 26 r0), none]) (st' := [vR 52 v_8]) (And.intro (Or.inl rfl) (trivial)) (And.intro (Or.inl rfl) (trivial)) ?_
    exact w_X32_check_28 w
  · refine jw_gen (ls' := _) (st' := [vR 6 r1, vR 22 (jfr h_2 122 r0)]) (jgl_rf _ _) (And.intro (Or.inl rfl) (And.intro (Or.inr ⟨_, _, _, rfl, rfl, Or.inr (Or.inr (by rw [e_9]; rfl))⟩) (jgs_rf _ _))) ?_
    refine jw_cR (st := []) (sa := [vR 22 (jfr h_2 122 r0), vR 6 r1]) okX28_check rfl rfl rfl rfl rfl rfl (jstp_up (sa := [vR 6 r1]) (st := []) rfl (lw_g (jtb_mem (c := 10) (i := 93) rfl) rfl) um20 okX28_check g_5 (fun _ _ => by rw [e_9]; exact ⟨rfl, rfl⟩) rfl rfl) (w.2.2.1 e_9) (fun v_8 h_6 _ _ _ w => ?_)
    refine jw_gen (ls' := [some (vR 26 r0), none]) (st' := [vR 52 v_8]) (And.intro (Or.inl rfl) (trivial)) (And.intro (Or.inl rfl) (trivial)) ?_
    exact w_X32_check_28 w
  · refine jw_gen (ls' := _) (st' := [vR 6 r1, vR 23 (jfr h_2 122 r0)]) (jgl_rf _ _) (And.intro (Or.inl rfl) (And.intro (Or.inr ⟨_, _, _, rfl, rfl, Or.inr (Or.inr (by rw [e_9]; rfl))⟩) (jgs_rf _ _))) ?_
    refine jw_cR (st := []) (sa := [vR 23 (jfr h_2 122 r0), vR 6 r1]) okX29_check rfl rfl rfl rfl rfl rfl (jstp_up (sa := [vR 6 r1]) (st := []) rfl (lw_g (jtb_mem (c := 10) (i := 93) rfl) rfl) um21 okX29_check g_5 (fun _ _ => by rw [e_9]; exact ⟨rfl, rfl⟩) rfl rfl) (w.2.2.2.1 e_9) (fun v_8 h_6 _ _ _ w => ?_)
    refine jw_gen (ls' := [some (vR 26 r0), none]) (st' := [vR 52 v_8]) (And.intro (Or.inl rfl) (trivial)) (And.intro (Or.inl rfl) (trivial)) ?_
    exact w_X32_check_28 w
  · refine jw_gen (ls' := _) (st' := [vR 6 r1, vR 24 (jfr h_2 122 r0)]) (jgl_rf _ _) (And.intro (Or.inl rfl) (And.intro (Or.inr ⟨_, _, _, rfl, rfl, Or.inr (Or.inr (by rw [e_9]; rfl))⟩) (jgs_rf _ _))) ?_
    refine jw_cR (st := []) (sa := [vR 24 (jfr h_2 122 r0), vR 6 r1]) okX30_check rfl rfl rfl rfl rfl rfl (jstp_up (sa := [vR 6 r1]) (st := []) rfl (lw_g (jtb_mem (c := 10) (i := 93) rfl) rfl) um22 okX30_check g_5 (fun _ _ => by rw [e_9]; exact ⟨rfl, rfl⟩) rfl rfl) (w.2.2.2.2.1 e_9) (fun v_8 h_6 _ _ _ w => ?_)
    refine jw_gen (ls' := [some (vR 26 r0), none]) (st' := [vR 52 v_8]) (And.intro (Or.inl rfl) (trivial)) (And.intro (Or.inl rfl) (trivial)) ?_
    exact w_X32_check_28 w
  · refine jw_gen (ls' := _) (st' := [vR 6 r1, vR 25 (jfr h_2 122 r0)]) (jgl_rf _ _) (And.intro (Or.inl rfl) (And.intro (Or.inr ⟨_, _, _, rfl, rfl, Or.inr (Or.inr (by rw [e_9]; rfl))⟩) (jgs_rf _ _))) ?_
    refine jw_cR (st := []) (sa := [vR 25 (jfr h_2 122 r0), vR 6 r1]) okX31_check rfl rfl rfl rfl rfl rfl (jstp_up (sa := [vR 6 r1]) (st := []) rfl (lw_g (jtb_mem (c := 10) (i := 93) rfl) rfl) um23 okX31_check g_5 (fun _ _ => by rw [e_9]; exact ⟨rfl, rfl⟩) rfl rfl) (w.2.2.2.2.2.1 e_9) (fun v_8 h_6 _ _ _ w => ?_)
    refine jw_gen (ls' := [some (vR 26 r0), none]) (st' := [vR 52 v_8]) (And.intro (Or.inl rfl) (trivial)) (And.intro (Or.inl rfl) (trivial)) ?_
    exact w_X32_check_28 w
  · refine jw_gen (ls' := _) (st' := [vR 6 r1, vR 26 (jfr h_2 122 r0)]) (jgl_rf _ _) (And.intro (Or.inl rfl) (And.intro (Or.inr ⟨_, _, _, rfl, rfl, Or.inr (Or.inr (by rw [e_9]; rfl))⟩) (jgs_rf _ _))) ?_
    refine jw_cR (st := []) (sa := [vR 26 (jfr h_2 122 r0), vR 6 r1]) okX32_check rfl rfl rfl rfl rfl rfl (jstp_up (sa := [vR 6 r1]) (st := []) rfl (lw_g (jtb_mem (c := 10) (i := 93) rfl) rfl) um24 okX32_check g_5 (fun _ _ => by rw [e_9]; exact ⟨rfl, rfl⟩) rfl rfl) (w.2.2.2.2.2.2.1 e_9) (fun v_8 h_6 _ _ _ w => ?_)
    refine jw_gen (ls' := [some (vR 26 r0), none]) (st' := [vR 52 v_8]) (And.intro (Or.inl rfl) (trivial)) (And.intro (Or.inl rfl) (trivial)) ?_
    exact w_X32_check_28 w
  · refine jw_gen (ls' := _) (st' := [vR 6 r1, vR 27 (jfr h_2 122 r0)]) (jgl_rf _ _) (And.intro (Or.inl rfl) (And.intro (Or.inr ⟨_, _, _, rfl, rfl, Or.inr (Or.inr (by rw [e_9]; rfl))⟩) (jgs_rf _ _))) ?_
    refine jw_cR (st := []) (sa := [vR 27 (jfr h_2 122 r0), vR 6 r1]) okX33_check rfl rfl rfl rfl rfl rfl (jstp_up (sa := [vR 6 r1]) (st := []) rfl (lw_g (jtb_mem (c := 10) (i := 93) rfl) rfl) um25 okX33_check g_5 (fun _ _ => by rw [e_9]; exact ⟨rfl, rfl⟩) rfl rfl) (w.2.2.2.2.2.2.2.1 e_9) (fun v_8 h_6 _ _ _ w => ?_)
    refine jw_gen (ls' := [some (vR 26 r0), none]) (st' := [vR 52 v_8]) (And.intro (Or.inl rfl) (trivial)) (And.intro (Or.inl rfl) (trivial)) ?_
    exact w_X32_check_28 w
  · refine jw_gen (ls' := _) (st' := [vR 6 r1, vR 28 (jfr h_2 122 r0)]) (jgl_rf _ _) (And.intro (Or.inl rfl) (And.intro (Or.inr ⟨_, _, _, rfl, rfl, Or.inr (Or.inr (by rw [e_9]; rfl))⟩) (jgs_rf _ _))) ?_
    refine jw_cR (st := []) (sa := [vR 28 (jfr h_2 122 r0), vR 6 r1]) okX34_check rfl rfl rfl rfl rfl rfl (jstp_up (sa := [vR 6 r1]) (st := []) rfl (lw_g (jtb_mem (c := 10) (i := 93) rfl) rfl) um26 okX34_check g_5 (fun _ _ => by rw [e_9]; exact ⟨rfl, rfl⟩) rfl rfl) (w.2.2.2.2.2.2.2.2.1 e_9) (fun v_8 h_6 _ _ _ w => ?_)
    refine jw_gen (ls' := [some (vR 26 r0), none]) (st' := [vR 52 v_8]) (And.intro (Or.inl rfl) (trivial)) (And.intro (Or.inl rfl) (trivial)) ?_
    exact w_X32_check_28 w
  · refine jw_gen (ls' := _) (st' := [vR 6 r1, vR 29 (jfr h_2 122 r0)]) (jgl_rf _ _) (And.intro (Or.inl rfl) (And.intro (Or.inr ⟨_, _, _, rfl, rfl, Or.inr (Or.inr (by rw [e_9]; rfl))⟩) (jgs_rf _ _))) ?_
    refine jw_cR (st := []) (sa := [vR 29 (jfr h_2 122 r0), vR 6 r1]) okX35_check rfl rfl rfl rfl rfl rfl (jstp_up (sa := [vR 6 r1]) (st := []) rfl (lw_g (jtb_mem (c := 10) (i := 93) rfl) rfl) um27 okX35_check g_5 (fun _ _ => by rw [e_9]; exact ⟨rfl, rfl⟩) rfl rfl) (w.2.2.2.2.2.2.2.2.2 e_9) (fun v_8 h_6 _ _ _ w => ?_)
    refine jw_gen (ls' := [some (vR 26 r0), none]) (st' := [vR 52 v_8]) (And.intro (Or.inl rfl) (trivial)) (And.intro (Or.inl rfl) (trivial)) ?_
    exact w_X32_check_28 w
def W_X32_check_0 (D : JD) (d : Nat) (Q : JO → JH → Prop) (r0 : Nat) (r1 : Nat) (h : JH) : Prop :=
  r0 ≠ 0 ∧ (((jfi h 121 r0) = 0 → W_X32_check_17 D d Q r0 r1 r0 (jcs D 356) h) ∧ (¬ (jfi h 121 r0) = 0 → W_X32_check_17 D d Q r0 r1 r0 (jcs D 357) h))
theorem w_X32_check_0 {D : JD} {d : Nat} {Q : JO → JH → Prop} {r0 : Nat} {r1 : Nat} {h : JH} (w : W_X32_check_0 D d Q r0 r1 h) : JW D (d + 1) mX32_check 0 [some (vR 26 r0), some (vR 6 r1)] [] h Q := by
  unfold W_X32_check_0 at w
  refine jw_aload_n (pc' := 1) rfl rfl ?_
  refine jw_aload_n (pc' := 2) rfl rfl ?_
  obtain ⟨g_1, w⟩ := w
  refine jw_getI (pc' := 5) (F := 121) rfl rfl rfl rfl g_1 ?_
  refine jw_if_eq (tgt := 14) (pc' := 8) rfl rfl (fun c_2 => ?_) (fun c_2 => ?_)
  · replace w := w.1 c_2
    refine jw_getsR (pc' := 17) rfl rfl rfl rfl ?_
    exact w_X32_check_17 w
  · replace w := w.2 c_2
    refine jw_getsR (pc' := 11) rfl rfl rfl rfl ?_
    refine jw_goto (pc' := 17) rfl rfl ?_
    exact w_X32_check_17 w
def T_X32_check (D : JD) (d : Nat) (Q : JO → JH → Prop) (r0 : Nat) (r1 : Nat) (h : JH) : Prop := W_X32_check_0 D d Q r0 r1 h
theorem t_X32_check {D : JD} {d : Nat} {Q : JO → JH → Prop} {r0 : Nat} {r1 : Nat} {h : JH} (w : T_X32_check D d Q r0 r1 h) : cX32_check D (d + 1) r0 r1 h Q := by
  unfold T_X32_check at w
  unfold cX32_check
  exact w_X32_check_0 w
def W_X32_count_0 (D : JD) (d : Nat) (Q : JO → JH → Prop) (h : JH) : Prop :=
  Q (.inl (some (vI (1 : Int32)))) h
theorem w_X32_count_0 {D : JD} {d : Nat} {Q : JO → JH → Prop} {h : JH} (w : W_X32_count_0 D d Q h) : JW D (d + 1) mX32_count 0 [none] [] h Q := by
  unfold W_X32_count_0 at w
  refine jw_iconst (pc' := 1) (x := (1 : Int32)) rfl rfl ?_
  exact jw_ireturn rfl rfl (rfl) w
def T_X32_count (D : JD) (d : Nat) (Q : JO → JH → Prop) (r0 : Nat) (h : JH) : Prop := W_X32_count_0 D d Q h
theorem t_X32_count {D : JD} {d : Nat} {Q : JO → JH → Prop} {r0 : Nat} {h : JH} (w : T_X32_count D d Q r0 h) : cX32_count D (d + 1) r0 h Q := by
  unfold T_X32_count at w
  unfold cX32_count
  refine jw_gen (ls' := [none]) (st' := []) (trivial) (trivial) ?_
  exact w_X32_count_0 w
def W_X32_part_0 (D : JD) (d : Nat) (Q : JO → JH → Prop) (r0 : Nat) (h : JH) : Prop :=
  r0 ≠ 0 ∧ (Q (.inl (some (vR 55 (jfr h 122 r0)))) h)
theorem w_X32_part_0 {D : JD} {d : Nat} {Q : JO → JH → Prop} {r0 : Nat} {h : JH} (w : W_X32_part_0 D d Q r0 h) : JW D (d + 1) mX32_part 0 [some (vR 26 r0), none] [] h Q := by
  unfold W_X32_part_0 at w
  refine jw_aload_n (pc' := 1) rfl rfl ?_
  obtain ⟨g_1, w⟩ := w
  refine jw_getR (pc' := 4) (F := 122) (t' := 55) rfl rfl rfl rfl rfl g_1 ?_
  exact jw_areturn rfl rfl rfl rfl rfl w
def T_X32_part (D : JD) (d : Nat) (Q : JO → JH → Prop) (r0 : Nat) (x1 : Int32) (h : JH) : Prop := W_X32_part_0 D d Q r0 h
theorem t_X32_part {D : JD} {d : Nat} {Q : JO → JH → Prop} {r0 : Nat} {x1 : Int32} {h : JH} (w : T_X32_part D d Q r0 x1 h) : cX32_part D (d + 1) r0 x1 h Q := by
  unfold T_X32_part at w
  unfold cX32_part
  refine jw_gen (ls' := [some (vR 26 r0), none]) (st' := []) (And.intro (Or.inl rfl) (trivial)) (trivial) ?_
  exact w_X32_part_0 w
def W_X32_like_34 (D : JD) (d : Nat) (Q : JO → JH → Prop) (s0 : Int32) (h : JH) : Prop :=
  jbo s0 ∧ (Q (.inl (some (vI s0))) h)
theorem w_X32_like_34 {D : JD} {d : Nat} {Q : JO → JH → Prop} {s0 : Int32} {h : JH} (w : W_X32_like_34 D d Q s0 h) : JW D (d + 1) mX32_like 34 [none, none] [vI s0] h Q := by
  unfold W_X32_like_34 at w
  obtain ⟨g_1, w⟩ := w
  exact jw_ireturn rfl rfl (g_1.nr) w
def W_X32_like_33 (D : JD) (d : Nat) (Q : JO → JH → Prop) (h : JH) : Prop :=
  W_X32_like_34 D d Q (0 : Int32) h
theorem w_X32_like_33 {D : JD} {d : Nat} {Q : JO → JH → Prop} {h : JH} (w : W_X32_like_33 D d Q h) : JW D (d + 1) mX32_like 33 [none, none] [] h Q := by
  unfold W_X32_like_33 at w
  refine jw_iconst (pc' := 34) (x := (0 : Int32)) rfl rfl ?_
  exact w_X32_like_34 w
def W_X32_like_0 (D : JD) (d : Nat) (Q : JO → JH → Prop) (r0 : Nat) (r1 : Nat) (h : JH) : Prop :=
  ((r1 ≠ 0 ∧ jkd h r1 = 26) → (r1 = 0 ∨ jkd h r1 = 26) ∧ (r1 ≠ 0 ∧ (r0 ≠ 0 ∧ ((¬ (jfi h 121 r1) = (jfi h 121 r0) → W_X32_like_33 D d Q h) ∧ ((jfi h 121 r1) = (jfi h 121 r0) → cX24_likeParts D d r0 r1 h (pI D h (fun v_9 h_7 => (v_9 = 0 → W_X32_like_33 D d Q h_7) ∧ (¬ v_9 = 0 → W_X32_like_34 D d Q (1 : Int32) h_7)) (jth Q))))))) ∧ (¬ (r1 ≠ 0 ∧ jkd h r1 = 26) → W_X32_like_33 D d Q h)
theorem w_X32_like_0 {D : JD} {d : Nat} {Q : JO → JH → Prop} {r0 : Nat} {r1 : Nat} {h : JH} (w : W_X32_like_0 D d Q r0 r1 h) : JW D (d + 1) mX32_like 0 [some (vR 26 r0), some (vR 55 r1)] [] h Q := by
  unfold W_X32_like_0 at w
  refine jw_aload_n (pc' := 1) rfl rfl ?_
  refine jw_inst (pc' := 4) (t := 55) (kt := 26) rfl rfl rfl rfl (by decide +kernel) (fun c_1 => ?_) (fun c_1 => ?_)
  · replace w := w.1 c_1
    refine jw_if_eq (tgt := 33) (pc' := 7) rfl rfl (fun c_2 => absurd c_2 (by decide)) (fun _ => ?_)
    refine jw_aload_n (pc' := 8) rfl rfl ?_
    obtain ⟨g_3, w⟩ := w
    refine jw_cast (pc' := 11) (t2 := 26) rfl rfl rfl rfl g_3 ?_
    obtain ⟨g_4, w⟩ := w
    refine jw_getI (pc' := 14) (F := 121) rfl rfl rfl rfl g_4 ?_
    refine jw_aload_n (pc' := 15) rfl rfl ?_
    obtain ⟨g_5, w⟩ := w
    refine jw_getI (pc' := 18) (F := 121) rfl rfl rfl rfl g_5 ?_
    refine jw_icmp_ne (tgt := 33) (pc' := 21) rfl rfl (fun c_6 => ?_) (fun c_6 => ?_)
    · replace w := w.1 c_6
      refine jw_gen (ls' := [none, none]) (st' := []) (trivial) (trivial) ?_
      exact w_X32_like_33 w
    · replace w := w.2 c_6
      refine jw_aload_n (pc' := 22) rfl rfl ?_
      refine jw_aload_n (pc' := 23) rfl rfl ?_
      refine jw_cI (st := []) (sa := [vR 26 r0, vR 55 r1]) okX24_likeParts rfl rfl rfl rfl rfl rfl (jstp_up (sa := [vR 55 r1]) (st := []) rfl (lw_g (jtb_mem (c := 11) (i := 87) rfl) rfl) um110 okX24_likeParts g_5 (one26.k g_5) rfl rfl) w (fun v_9 h_7 _ _ w => ?_)
      refine jw_if_eq (tgt := 33) (pc' := 29) rfl rfl (fun c_10 => ?_) (fun c_10 => ?_)
      · replace w := w.1 c_10
        refine jw_gen (ls' := [none, none]) (st' := []) (trivial) (trivial) ?_
        exact w_X32_like_33 w
      · replace w := w.2 c_10
        refine jw_iconst (pc' := 30) (x := (1 : Int32)) rfl rfl ?_
        refine jw_goto (pc' := 34) rfl rfl ?_
        refine jw_gen (ls' := [none, none]) (st' := [vI (1 : Int32)]) (trivial) (And.intro (Or.inl rfl) (trivial)) ?_
        exact w_X32_like_34 w
  · replace w := w.2 c_1
    refine jw_if_eq (tgt := 33) (pc' := 7) rfl rfl (fun _ => ?_) (fun c_11 => absurd c_11 (by decide))
    refine jw_gen (ls' := [none, none]) (st' := []) (trivial) (trivial) ?_
    exact w_X32_like_33 w
def T_X32_like (D : JD) (d : Nat) (Q : JO → JH → Prop) (r0 : Nat) (r1 : Nat) (h : JH) : Prop := W_X32_like_0 D d Q r0 r1 h
theorem t_X32_like {D : JD} {d : Nat} {Q : JO → JH → Prop} {r0 : Nat} {r1 : Nat} {h : JH} (w : T_X32_like D d Q r0 r1 h) : cX32_like D (d + 1) r0 r1 h Q := by
  unfold T_X32_like at w
  unfold cX32_like
  exact w_X32_like_0 w
def W_X32_at_65 (D : JD) (d : Nat) (Q : JO → JH → Prop) (q0 : Nat) (h : JH) : Prop :=
  Q (.inl (some (vR 8 q0))) h
theorem w_X32_at_65 {D : JD} {d : Nat} {Q : JO → JH → Prop} {q0 : Nat} {h : JH} (w : W_X32_at_65 D d Q q0 h) : JW D (d + 1) mX32_at 65 [none, none, none] [vR 8 q0] h Q := by
  unfold W_X32_at_65 at w
  exact jw_areturn rfl rfl rfl rfl rfl w
def W_X32_at_47 (D : JD) (d : Nat) (Q : JO → JH → Prop) (q0 : Nat) (s1 : Int32) (h : JH) : Prop :=
  q0 ≠ 0 ∧ (cX14_truth D d q0 s1 h (pR D h 8 (fun v_4 h_2 => W_X32_at_65 D d Q v_4 h_2) (jth Q)))
theorem w_X32_at_47 {D : JD} {d : Nat} {Q : JO → JH → Prop} {q0 : Nat} {s1 : Int32} {h : JH} (w : W_X32_at_47 D d Q q0 s1 h) : JW D (d + 1) mX32_at 47 [none, none, none] [vI s1, vR 98 q0] h Q := by
  unfold W_X32_at_47 at w
  obtain ⟨g_1, w⟩ := w
  refine jw_cR (st := []) (sa := [vR 98 q0, vI s1]) okX14_truth rfl rfl rfl rfl rfl rfl (jstp_virtual (sa := [vI s1]) (st := []) (k := 0) rfl rfl sX14_truth okX14_truth g_1 (one98.k g_1) rfl rfl) w (fun v_4 h_2 _ _ _ w => ?_)
  refine jw_goto (pc' := 65) rfl rfl ?_
  exact w_X32_at_65 w
def W_X32_at_8 (D : JD) (d : Nat) (Q : JO → JH → Prop) (r0 : Nat) (q0 : Nat) (h : JH) : Prop :=
  q0 ≠ 0 ∧ (cX14_isEmpty D d q0 h (pI D h (fun v_4 h_2 => (v_4 = 0 → r0 ≠ 0 ∧ (((jfi h_2 121 r0) = 0 → cX14_number_2 D d q0 h_2 (pL D h_2 (fun v_9 h_8 => (jfr h_2 108 r0) ≠ 0 ∧ (cX14_number D d (jfr h_2 108 r0) (-v_9) h_8 (pR D h_8 8 (fun v_13 h_11 => W_X32_at_65 D d Q v_13 h_11) (jth Q)))) (jth Q))) ∧ (¬ (jfi h_2 121 r0) = 0 → cX14_isTrue D d q0 h_2 (pI D h_2 (fun v_16 h_14 => (¬ v_16 = 0 → W_X32_at_47 D d Q (jfr h_2 108 r0) (0 : Int32) h_14) ∧ (v_16 = 0 → W_X32_at_47 D d Q (jfr h_2 108 r0) (1 : Int32) h_14)) (jth Q))))) ∧ (¬ v_4 = 0 → r0 ≠ 0 ∧ ((jfr h_2 108 r0) ≠ 0 ∧ (cX14_none D d (jfr h_2 108 r0) h_2 (pR D h_2 8 (fun v_22 h_20 => Q (.inl (some (vR 8 v_22))) h_20) (jth Q)))))) (jth Q)))
theorem w_X32_at_8 {D : JD} {d : Nat} {Q : JO → JH → Prop} {r0 : Nat} {q0 : Nat} {h : JH} (w : W_X32_at_8 D d Q r0 q0 h) : JW D (d + 1) mX32_at 8 [some (vR 26 r0), none, none] [vR 8 q0] h Q := by
  unfold W_X32_at_8 at w
  refine jw_astore_n (pc' := 9) (ls' := [some (vR 26 r0), none, some (vR 8 q0)]) rfl (by decide) rfl ?_
  refine jw_aload_n (pc' := 10) rfl rfl ?_
  obtain ⟨g_1, w⟩ := w
  refine jw_cI (st := []) (sa := [vR 8 q0]) okX14_isEmpty rfl rfl rfl rfl rfl rfl (jstp_virtual (sa := []) (st := []) (k := 0) rfl rfl sX14_isEmpty okX14_isEmpty g_1 (one8.k g_1) rfl rfl) w (fun v_4 h_2 _ _ w => ?_)
  refine jw_if_eq (tgt := 24) (pc' := 16) rfl rfl (fun c_5 => ?_) (fun c_5 => ?_)
  · replace w := w.1 c_5
    refine jw_aload_n (pc' := 25) rfl rfl ?_
    obtain ⟨g_6, w⟩ := w
    refine jw_getI (pc' := 28) (F := 121) rfl rfl rfl rfl g_6 ?_
    refine jw_if_eq (tgt := 53) (pc' := 31) rfl rfl (fun c_7 => ?_) (fun c_7 => ?_)
    · replace w := w.1 c_7
      refine jw_aload_n (pc' := 54) rfl rfl ?_
      refine jw_getR (pc' := 57) (F := 108) (t' := 98) rfl rfl rfl rfl rfl g_6 ?_
      refine jw_aload_n (pc' := 58) rfl rfl ?_
      refine jw_cL (st := [vR 98 (jfr h_2 108 r0)]) (sa := [vR 8 q0]) okX14_number_2 rfl rfl rfl rfl rfl rfl (jstp_virtual (sa := []) (st := [vR 98 (jfr h_2 108 r0)]) (k := 0) rfl rfl sX14_number_2 okX14_number_2 g_1 (one8.k g_1) rfl rfl) w (fun v_9 h_8 _ _ w => ?_)
      refine jw_lneg (pc' := 62) rfl ?_
      obtain ⟨g_10, w⟩ := w
      refine jw_cR (st := []) (sa := [vR 98 (jfr h_2 108 r0), vL (-v_9)]) okX14_number rfl rfl rfl rfl rfl rfl (jstp_virtual (sa := [vL (-v_9)]) (st := []) (k := 0) rfl rfl sX14_number okX14_number g_10 (one98.k g_10) rfl rfl) w (fun v_13 h_11 _ _ _ w => ?_)
      refine jw_gen (ls' := [none, none, none]) (st' := [vR 8 v_13]) (trivial) (And.intro (Or.inl rfl) (trivial)) ?_
      exact w_X32_at_65 w
    · replace w := w.2 c_7
      refine jw_aload_n (pc' := 32) rfl rfl ?_
      refine jw_getR (pc' := 35) (F := 108) (t' := 98) rfl rfl rfl rfl rfl g_6 ?_
      refine jw_aload_n (pc' := 36) rfl rfl ?_
      refine jw_cI (st := [vR 98 (jfr h_2 108 r0)]) (sa := [vR 8 q0]) okX14_isTrue rfl rfl rfl rfl rfl rfl (jstp_virtual (sa := []) (st := [vR 98 (jfr h_2 108 r0)]) (k := 0) rfl rfl sX14_isTrue okX14_isTrue g_1 (one8.k g_1) rfl rfl) w (fun v_16 h_14 _ _ w => ?_)
      refine jw_if_ne (tgt := 46) (pc' := 42) rfl rfl (fun c_17 => ?_) (fun c_17 => ?_)
      · replace w := w.1 c_17
        refine jw_iconst (pc' := 47) (x := (0 : Int32)) rfl rfl ?_
        refine jw_gen (ls' := [none, none, none]) (st' := [vI (0 : Int32), vR 98 (jfr h_2 108 r0)]) (trivial) (And.intro (Or.inl rfl) (And.intro (Or.inl rfl) (trivial))) ?_
        exact w_X32_at_47 w
      · replace w := w.2 c_17
        refine jw_iconst (pc' := 43) (x := (1 : Int32)) rfl rfl ?_
        refine jw_goto (pc' := 47) rfl rfl ?_
        refine jw_gen (ls' := [none, none, none]) (st' := [vI (1 : Int32), vR 98 (jfr h_2 108 r0)]) (trivial) (And.intro (Or.inl rfl) (And.intro (Or.inl rfl) (trivial))) ?_
        exact w_X32_at_47 w
  · replace w := w.2 c_5
    refine jw_aload_n (pc' := 17) rfl rfl ?_
    obtain ⟨g_18, w⟩ := w
    refine jw_getR (pc' := 20) (F := 108) (t' := 98) rfl rfl rfl rfl rfl g_18 ?_
    obtain ⟨g_19, w⟩ := w
    refine jw_cR (st := []) (sa := [vR 98 (jfr h_2 108 r0)]) okX14_none rfl rfl rfl rfl rfl rfl (jstp_virtual (sa := []) (st := []) (k := 0) rfl rfl sX14_none okX14_none g_19 (one98.k g_19) rfl rfl) w (fun v_22 h_20 _ _ _ w => ?_)
    exact jw_areturn rfl rfl rfl rfl rfl w
def W_X32_at_0 (D : JD) (d : Nat) (Q : JO → JH → Prop) (r0 : Nat) (r1 : Nat) (h : JH) : Prop :=
  r0 ≠ 0 ∧ ((jfr h 122 r0) ≠ 0 ∧ (v55_at D d (jfr h 122 r0) r1 h (pR D h 8 (fun v_5 h_3 => W_X32_at_8 D d Q r0 v_5 h_3) (jth Q))))
theorem w_X32_at_0 {D : JD} {d : Nat} {Q : JO → JH → Prop} {r0 : Nat} {r1 : Nat} {h : JH} (w : W_X32_at_0 D d Q r0 r1 h) : JW D (d + 1) mX32_at 0 [some (vR 26 r0), some (vR 6 r1), none] [] h Q := by
  unfold W_X32_at_0 at w
  refine jw_aload_n (pc' := 1) rfl rfl ?_
  obtain ⟨g_1, w⟩ := w
  refine jw_getR (pc' := 4) (F := 122) (t' := 55) rfl rfl rfl rfl rfl g_1 ?_
  refine jw_aload_n (pc' := 5) rfl rfl ?_
  obtain ⟨g_2, w⟩ := w
  refine JW.inv (fun hI => JW.oks (fun ho => ?_))
  have hkd := und55.k hI (ho (vR 55 (jfr h 122 r0)) (by simp)) g_2
  simp only [List.mem_cons, List.not_mem_nil, or_false] at hkd
  clear ho hI
  rcases hkd with e_6 | e_6 | e_6 | e_6 | e_6 | e_6 | e_6 | e_6 | e_6 | e_6
  · refine jw_gen (ls' := _) (st' := [vR 6 r1, vR 20 (jfr h 122 r0)]) (jgl_rf _ _) (And.intro (Or.inl rfl) (And.intro (Or.inr ⟨_, _, _, rfl, rfl, Or.inr (Or.inr (by rw [e_6]; rfl))⟩) (jgs_rf _ _))) ?_
    refine jw_cR (st := []) (sa := [vR 20 (jfr h 122 r0), vR 6 r1]) okX25_at rfl rfl rfl rfl rfl rfl (jstp_up (sa := [vR 6 r1]) (st := []) rfl (lw_g (jtb_mem (c := 12) (i := 54) rfl) rfl) um28 okX25_at g_2 (fun _ _ => by rw [e_6]; exact ⟨rfl, rfl⟩) rfl rfl) (w.1 e_6) (fun v_5 h_3 _ _ _ w => ?_)
    refine jw_gen (ls' := [some (vR 26 r0), none, none]) (st' := [vR 8 v_5]) (And.intro (Or.inl rfl) (trivial)) (And.intro (Or.inl rfl) (trivial)) ?_
    exact w_X32_at_8 w
  · refine jw_gen (ls' := _) (st' := [vR 6 r1, vR 21 (jfr h 122 r0)]) (jgl_rf _ _) (And.intro (Or.inl rfl) (And.intro (Or.inr ⟨_, _, _, rfl, rfl, Or.inr (Or.inr (by rw [e_6]; rfl))⟩) (jgs_rf _ _))) ?_
    refine jw_cR (st := []) (sa := [vR 21 (jfr h 122 r0), vR 6 r1]) okX27_at rfl rfl rfl rfl rfl rfl (jstp_up (sa := [vR 6 r1]) (st := []) rfl (lw_g (jtb_mem (c := 12) (i := 54) rfl) rfl) um29 okX27_at g_2 (fun _ _ => by rw [e_6]; exact ⟨rfl, rfl⟩) rfl rfl) (w.2.1 e_6) (fun v_5 h_3 _ _ _ w => ?_)
    refine jw_gen (ls' := [some (vR 26 r0), none, none]) (st' := [vR 8 v_5]) (And.intro (Or.inl rfl) (trivial)) (And.intro (Or.inl rfl) (trivial)) ?_
    exact w_X32_at_8 w
  · refine jw_gen (ls' := _) (st' := [vR 6 r1, vR 22 (jfr h 122 r0)]) (jgl_rf _ _) (And.intro (Or.inl rfl) (And.intro (Or.inr ⟨_, _, _, rfl, rfl, Or.inr (Or.inr (by rw [e_6]; rfl))⟩) (jgs_rf _ _))) ?_
    refine jw_cR (st := []) (sa := [vR 22 (jfr h 122 r0), vR 6 r1]) okX28_at rfl rfl rfl rfl rfl rfl (jstp_up (sa := [vR 6 r1]) (st := []) rfl (lw_g (jtb_mem (c := 12) (i := 54) rfl) rfl) um30 okX28_at g_2 (fun _ _ => by rw [e_6]; exact ⟨rfl, rfl⟩) rfl rfl) (w.2.2.1 e_6) (fun v_5 h_3 _ _ _ w => ?_)
    refine jw_gen (ls' := [some (vR 26 r0), none, none]) (st' := [vR 8 v_5]) (And.intro (Or.inl rfl) (trivial)) (And.intro (Or.inl rfl) (trivial)) ?_
    exact w_X32_at_8 w
  · refine jw_gen (ls' := _) (st' := [vR 6 r1, vR 23 (jfr h 122 r0)]) (jgl_rf _ _) (And.intro (Or.inl rfl) (And.intro (Or.inr ⟨_, _, _, rfl, rfl, Or.inr (Or.inr (by rw [e_6]; rfl))⟩) (jgs_rf _ _))) ?_
    refine jw_cR (st := []) (sa := [vR 23 (jfr h 122 r0), vR 6 r1]) okX29_at rfl rfl rfl rfl rfl rfl (jstp_up (sa := [vR 6 r1]) (st := []) rfl (lw_g (jtb_mem (c := 12) (i := 54) rfl) rfl) um31 okX29_at g_2 (fun _ _ => by rw [e_6]; exact ⟨rfl, rfl⟩) rfl rfl) (w.2.2.2.1 e_6) (fun v_5 h_3 _ _ _ w => ?_)
    refine jw_gen (ls' := [some (vR 26 r0), none, none]) (st' := [vR 8 v_5]) (And.intro (Or.inl rfl) (trivial)) (And.intro (Or.inl rfl) (trivial)) ?_
    exact w_X32_at_8 w
  · refine jw_gen (ls' := _) (st' := [vR 6 r1, vR 24 (jfr h 122 r0)]) (jgl_rf _ _) (And.intro (Or.inl rfl) (And.intro (Or.inr ⟨_, _, _, rfl, rfl, Or.inr (Or.inr (by rw [e_6]; rfl))⟩) (jgs_rf _ _))) ?_
    refine jw_cR (st := []) (sa := [vR 24 (jfr h 122 r0), vR 6 r1]) okX30_at rfl rfl rfl rfl rfl rfl (jstp_up (sa := [vR 6 r1]) (st := []) rfl (lw_g (jtb_mem (c := 12) (i := 54) rfl) rfl) um32 okX30_at g_2 (fun _ _ => by rw [e_6]; exact ⟨rfl, rfl⟩) rfl rfl) (w.2.2.2.2.1 e_6) (fun v_5 h_3 _ _ _ w => ?_)
    refine jw_gen (ls' := [some (vR 26 r0), none, none]) (st' := [vR 8 v_5]) (And.intro (Or.inl rfl) (trivial)) (And.intro (Or.inl rfl) (trivial)) ?_
    exact w_X32_at_8 w
  · refine jw_gen (ls' := _) (st' := [vR 6 r1, vR 25 (jfr h 122 r0)]) (jgl_rf _ _) (And.intro (Or.inl rfl) (And.intro (Or.inr ⟨_, _, _, rfl, rfl, Or.inr (Or.inr (by rw [e_6]; rfl))⟩) (jgs_rf _ _))) ?_
    refine jw_cR (st := []) (sa := [vR 25 (jfr h 122 r0), vR 6 r1]) okX31_at rfl rfl rfl rfl rfl rfl (jstp_up (sa := [vR 6 r1]) (st := []) rfl (lw_g (jtb_mem (c := 12) (i := 54) rfl) rfl) um33 okX31_at g_2 (fun _ _ => by rw [e_6]; exact ⟨rfl, rfl⟩) rfl rfl) (w.2.2.2.2.2.1 e_6) (fun v_5 h_3 _ _ _ w => ?_)
    refine jw_gen (ls' := [some (vR 26 r0), none, none]) (st' := [vR 8 v_5]) (And.intro (Or.inl rfl) (trivial)) (And.intro (Or.inl rfl) (trivial)) ?_
    exact w_X32_at_8 w
  · refine jw_gen (ls' := _) (st' := [vR 6 r1, vR 26 (jfr h 122 r0)]) (jgl_rf _ _) (And.intro (Or.inl rfl) (And.intro (Or.inr ⟨_, _, _, rfl, rfl, Or.inr (Or.inr (by rw [e_6]; rfl))⟩) (jgs_rf _ _))) ?_
    refine jw_cR (st := []) (sa := [vR 26 (jfr h 122 r0), vR 6 r1]) okX32_at rfl rfl rfl rfl rfl rfl (jstp_up (sa := [vR 6 r1]) (st := []) rfl (lw_g (jtb_mem (c := 12) (i := 54) rfl) rfl) um34 okX32_at g_2 (fun _ _ => by rw [e_6]; exact ⟨rfl, rfl⟩) rfl rfl) (w.2.2.2.2.2.2.1 e_6) (fun v_5 h_3 _ _ _ w => ?_)
    refine jw_gen (ls' := [some (vR 26 r0), none, none]) (st' := [vR 8 v_5]) (And.intro (Or.inl rfl) (trivial)) (And.intro (Or.inl rfl) (trivial)) ?_
    exact w_X32_at_8 w
  · refine jw_gen (ls' := _) (st' := [vR 6 r1, vR 27 (jfr h 122 r0)]) (jgl_rf _ _) (And.intro (Or.inl rfl) (And.intro (Or.inr ⟨_, _, _, rfl, rfl, Or.inr (Or.inr (by rw [e_6]; rfl))⟩) (jgs_rf _ _))) ?_
    refine jw_cR (st := []) (sa := [vR 27 (jfr h 122 r0), vR 6 r1]) okX33_at rfl rfl rfl rfl rfl rfl (jstp_up (sa := [vR 6 r1]) (st := []) rfl (lw_g (jtb_mem (c := 12) (i := 54) rfl) rfl) um35 okX33_at g_2 (fun _ _ => by rw [e_6]; exact ⟨rfl, rfl⟩) rfl rfl) (w.2.2.2.2.2.2.2.1 e_6) (fun v_5 h_3 _ _ _ w => ?_)
    refine jw_gen (ls' := [some (vR 26 r0), none, none]) (st' := [vR 8 v_5]) (And.intro (Or.inl rfl) (trivial)) (And.intro (Or.inl rfl) (trivial)) ?_
    exact w_X32_at_8 w
  · refine jw_gen (ls' := _) (st' := [vR 6 r1, vR 28 (jfr h 122 r0)]) (jgl_rf _ _) (And.intro (Or.inl rfl) (And.intro (Or.inr ⟨_, _, _, rfl, rfl, Or.inr (Or.inr (by rw [e_6]; rfl))⟩) (jgs_rf _ _))) ?_
    refine jw_cR (st := []) (sa := [vR 28 (jfr h 122 r0), vR 6 r1]) okX34_at rfl rfl rfl rfl rfl rfl (jstp_up (sa := [vR 6 r1]) (st := []) rfl (lw_g (jtb_mem (c := 12) (i := 54) rfl) rfl) um36 okX34_at g_2 (fun _ _ => by rw [e_6]; exact ⟨rfl, rfl⟩) rfl rfl) (w.2.2.2.2.2.2.2.2.1 e_6) (fun v_5 h_3 _ _ _ w => ?_)
    refine jw_gen (ls' := [some (vR 26 r0), none, none]) (st' := [vR 8 v_5]) (And.intro (Or.inl rfl) (trivial)) (And.intro (Or.inl rfl) (trivial)) ?_
    exact w_X32_at_8 w
  · refine jw_gen (ls' := _) (st' := [vR 6 r1, vR 29 (jfr h 122 r0)]) (jgl_rf _ _) (And.intro (Or.inl rfl) (And.intro (Or.inr ⟨_, _, _, rfl, rfl, Or.inr (Or.inr (by rw [e_6]; rfl))⟩) (jgs_rf _ _))) ?_
    refine jw_cR (st := []) (sa := [vR 29 (jfr h 122 r0), vR 6 r1]) okX35_at rfl rfl rfl rfl rfl rfl (jstp_up (sa := [vR 6 r1]) (st := []) rfl (lw_g (jtb_mem (c := 12) (i := 54) rfl) rfl) um37 okX35_at g_2 (fun _ _ => by rw [e_6]; exact ⟨rfl, rfl⟩) rfl rfl) (w.2.2.2.2.2.2.2.2.2 e_6) (fun v_5 h_3 _ _ _ w => ?_)
    refine jw_gen (ls' := [some (vR 26 r0), none, none]) (st' := [vR 8 v_5]) (And.intro (Or.inl rfl) (trivial)) (And.intro (Or.inl rfl) (trivial)) ?_
    exact w_X32_at_8 w
def T_X32_at (D : JD) (d : Nat) (Q : JO → JH → Prop) (r0 : Nat) (r1 : Nat) (h : JH) : Prop := W_X32_at_0 D d Q r0 r1 h
theorem t_X32_at {D : JD} {d : Nat} {Q : JO → JH → Prop} {r0 : Nat} {r1 : Nat} {h : JH} (w : T_X32_at D d Q r0 r1 h) : cX32_at D (d + 1) r0 r1 h Q := by
  unfold T_X32_at at w
  unfold cX32_at
  exact w_X32_at_0 w
def W_X33_init_0 (D : JD) (d : Nat) (Q : JO → JH → Prop) (r0 : Nat) (r1 : Nat) (r2 : Nat) (r3 : Nat) (h : JH) : Prop :=
  r0 ≠ 0 ∧ (cX24_init D d r0 h (pV D h (fun h_2 => ∀ h_5 : JH, h_5 = wfr h_2 123 r0 r1 → (∀ h_7 : JH, h_7 = wfr h_5 124 r0 r2 → (∀ h_9 : JH, h_9 = wfr h_7 125 r0 r3 → (Q (.inl none) h_9)))) (jth Q)))
theorem w_X33_init_0 {D : JD} {d : Nat} {Q : JO → JH → Prop} {r0 : Nat} {r1 : Nat} {r2 : Nat} {r3 : Nat} {h : JH} (w : W_X33_init_0 D d Q r0 r1 r2 r3 h) : JW D (d + 1) mX33_init 0 [some (vR 27 r0), some (vR 54 r1), some (vR 55 r2), some (vR 55 r3)] [] h Q := by
  unfold W_X33_init_0 at w
  refine jw_aload_n (pc' := 1) rfl rfl ?_
  obtain ⟨g_1, w⟩ := w
  refine jw_cV (st := []) (sa := [vR 27 r0]) okX24_init rfl rfl rfl rfl rfl rfl (jstp_init (sa := []) (st := []) rfl rfl sX24_init okX24_init (lw_g (jtb_mem (c := 7) (i := 95) rfl) rfl) g_1 rfl rfl) w (fun h_2 _ _ w => ?_)
  refine jw_aload_n (pc' := 5) rfl rfl ?_
  refine jw_aload_n (pc' := 6) rfl rfl ?_
  refine jw_putR' (pc' := 9) (F := 123) rfl rfl rfl (Or.inr rfl) (Or.inr ⟨rfl, rfl⟩) rfl rfl rfl g_1 (fun h_5 e_6 => ?_)
  replace w := w h_5 e_6
  refine jw_aload_n (pc' := 10) rfl rfl ?_
  refine jw_aload_n (pc' := 11) rfl rfl ?_
  refine jw_putR' (pc' := 14) (F := 124) rfl rfl rfl (Or.inr rfl) (Or.inr ⟨rfl, rfl⟩) rfl rfl rfl g_1 (fun h_7 e_8 => ?_)
  replace w := w h_7 e_8
  refine jw_aload_n (pc' := 15) rfl rfl ?_
  refine jw_aload_n (pc' := 16) rfl rfl ?_
  refine jw_putR' (pc' := 19) (F := 125) rfl rfl rfl (Or.inr rfl) (Or.inr ⟨rfl, rfl⟩) rfl rfl rfl g_1 (fun h_9 e_10 => ?_)
  replace w := w h_9 e_10
  exact jw_return rfl rfl w
def T_X33_init (D : JD) (d : Nat) (Q : JO → JH → Prop) (r0 : Nat) (r1 : Nat) (r2 : Nat) (r3 : Nat) (h : JH) : Prop := W_X33_init_0 D d Q r0 r1 r2 r3 h
theorem t_X33_init {D : JD} {d : Nat} {Q : JO → JH → Prop} {r0 : Nat} {r1 : Nat} {r2 : Nat} {r3 : Nat} {h : JH} (w : T_X33_init D d Q r0 r1 r2 r3 h) : cX33_init D (d + 1) r0 r1 r2 r3 h Q := by
  unfold T_X33_init at w
  unfold cX33_init
  exact w_X33_init_0 w
def W_X33_check_140 (D : JD) (d : Nat) (Q : JO → JH → Prop) (r0 : Nat) (q0 : Nat) (q1 : Nat) (h : JH) : Prop :=
  q0 ≠ 0 ∧ ∀ h_2 : JH, h_2 = wfr h 109 q0 q1 → (r0 ≠ 0 ∧ (Q (.inl (some (vR 52 (jfr h_2 109 r0)))) h_2))
theorem w_X33_check_140 {D : JD} {d : Nat} {Q : JO → JH → Prop} {r0 : Nat} {q0 : Nat} {q1 : Nat} {h : JH} (w : W_X33_check_140 D d Q r0 q0 q1 h) : JW D (d + 1) mX33_check 140 [some (vR 27 r0), none, none, none, none] [vR 52 q1, vR 27 q0] h Q := by
  unfold W_X33_check_140 at w
  obtain ⟨g_1, w⟩ := w
  refine jw_putR' (pc' := 143) (F := 109) rfl rfl rfl (Or.inr rfl) (Or.inl rfl) rfl rfl rfl g_1 (fun h_2 e_3 => ?_)
  replace w := w h_2 e_3
  refine jw_aload_n (pc' := 144) rfl rfl ?_
  obtain ⟨g_4, w⟩ := w
  refine jw_getR (pc' := 147) (F := 109) (t' := 52) rfl rfl rfl rfl rfl g_4 ?_
  exact jw_areturn rfl rfl rfl rfl rfl w
def W_X33_check_98 (D : JD) (d : Nat) (Q : JO → JH → Prop) (r0 : Nat) (h : JH) : Prop :=
  r0 ≠ 0 ∧ ((jfr h 123 r0) ≠ 0 ∧ (cJ11_ordinal D d (jfr h 123 r0) h (pI D h (fun v_5 h_3 => (jcs D 363) ≠ 0 ∧ (cJ11_ordinal D d (jcs D 363) h_3 (pI D h_3 (fun v_9 h_7 => (v_9 ≤ v_5 → (¬ (jfr h_7 123 r0) = (jcs D 363) → W_X33_check_140 D d Q r0 r0 (jcs D 357) h_7) ∧ ((jfr h_7 123 r0) = (jcs D 363) → W_X33_check_140 D d Q r0 r0 (jcs D 346) h_7)) ∧ (¬ v_9 ≤ v_5 → W_X33_check_140 D d Q r0 r0 (jcs D 356) h_7)) (jth Q)))) (jth Q))))
theorem w_X33_check_98 {D : JD} {d : Nat} {Q : JO → JH → Prop} {r0 : Nat} {h : JH} (w : W_X33_check_98 D d Q r0 h) : JW D (d + 1) mX33_check 98 [some (vR 27 r0), none, none, none, none] [] h Q := by
  unfold W_X33_check_98 at w
  refine jw_aload_n (pc' := 99) rfl rfl ?_
  refine jw_aload_n (pc' := 100) rfl rfl ?_
  obtain ⟨g_1, w⟩ := w
  refine jw_getR (pc' := 103) (F := 123) (t' := 54) rfl rfl rfl rfl rfl g_1 ?_
  obtain ⟨g_2, w⟩ := w
  refine jw_cI (st := [vR 27 r0]) (sa := [vR 54 (jfr h 123 r0)]) okJ11_ordinal rfl rfl rfl rfl rfl rfl (jstp_up (sa := []) (st := [vR 27 r0]) rfl (lw_g (jtb_mem (c := 10) (i := 122) rfl) rfl) um111 okJ11_ordinal g_2 (one54.k g_2) rfl rfl) w (fun v_5 h_3 _ _ w => ?_)
  refine jw_getsR (pc' := 109) rfl rfl rfl rfl ?_
  obtain ⟨g_6, w⟩ := w
  refine jw_cI (st := [vI v_5, vR 27 r0]) (sa := [vR 54 (jcs D 363)]) okJ11_ordinal rfl rfl rfl rfl rfl rfl (jstp_up (sa := []) (st := [vI v_5, vR 27 r0]) rfl (lw_g (jtb_mem (c := 10) (i := 122) rfl) rfl) um111 okJ11_ordinal g_6 (one54.k g_6) rfl rfl) w (fun v_9 h_7 _ _ w => ?_)
  refine jw_icmp_ge (tgt := 121) (pc' := 115) rfl rfl (fun c_10 => ?_) (fun c_10 => ?_)
  · replace w := w.1 c_10
    refine jw_aload_n (pc' := 122) rfl rfl ?_
    refine jw_getR (pc' := 125) (F := 123) (t' := 54) rfl rfl rfl rfl rfl g_1 ?_
    refine jw_getsR (pc' := 128) rfl rfl rfl rfl ?_
    refine jw_acmp_ne (tgt := 137) (pc' := 131) rfl rfl (fun c_11 => ?_) (fun c_11 => ?_)
    · replace w := w.1 c_11
      refine jw_getsR (pc' := 140) rfl rfl rfl rfl ?_
      exact w_X33_check_140 w
    · replace w := w.2 c_11
      refine jw_getsR (pc' := 134) rfl rfl rfl rfl ?_
      refine jw_goto (pc' := 140) rfl rfl ?_
      exact w_X33_check_140 w
  · replace w := w.2 c_10
    refine jw_getsR (pc' := 118) rfl rfl rfl rfl ?_
    refine jw_goto (pc' := 140) rfl rfl ?_
    exact w_X33_check_140 w
def W_X33_check_84 (D : JD) (d : Nat) (Q : JO → JH → Prop) (r0 : Nat) (r2 : Nat) (r3 : Nat) (q0 : Nat) (h : JH) : Prop :=
  cX24_need D d r2 q0 h (pV D h (fun h_1 => cX24_need D d r3 q0 h_1 (pV D h_1 (fun h_4 => W_X33_check_98 D d Q r0 h_4) (jth Q))) (jth Q))
theorem w_X33_check_84 {D : JD} {d : Nat} {Q : JO → JH → Prop} {r0 : Nat} {r2 : Nat} {r3 : Nat} {q0 : Nat} {h : JH} (w : W_X33_check_84 D d Q r0 r2 r3 q0 h) : JW D (d + 1) mX33_check 84 [some (vR 27 r0), none, some (vR 52 r2), some (vR 52 r3), none] [vR 52 q0] h Q := by
  unfold W_X33_check_84 at w
  refine jw_astore (pc' := 86) (ls' := [some (vR 27 r0), none, some (vR 52 r2), some (vR 52 r3), some (vR 52 q0)]) rfl (by decide) rfl ?_
  refine jw_aload_n (pc' := 87) rfl rfl ?_
  refine jw_aload (pc' := 89) rfl rfl ?_
  refine jw_cV (st := []) (sa := [vR 52 r2, vR 52 q0]) okX24_need rfl rfl rfl rfl rfl rfl (jstp_staticUp (sa := [vR 52 r2, vR 52 q0]) (st := []) rfl (lw_g (jtb_mem (c := 10) (i := 127) rfl) rfl) (lw_g (jtb_mem (c := 10) (i := 128) rfl) rfl) rfl sX24_need okX24_need rfl rfl) w (fun h_1 _ _ w => ?_)
  refine jw_aload_n (pc' := 93) rfl rfl ?_
  refine jw_aload (pc' := 95) rfl rfl ?_
  refine jw_cV (st := []) (sa := [vR 52 r3, vR 52 q0]) okX24_need rfl rfl rfl rfl rfl rfl (jstp_staticUp (sa := [vR 52 r3, vR 52 q0]) (st := []) rfl (lw_g (jtb_mem (c := 10) (i := 127) rfl) rfl) (lw_g (jtb_mem (c := 10) (i := 128) rfl) rfl) rfl sX24_need okX24_need rfl rfl) w (fun h_4 _ _ w => ?_)
  refine jw_gen (ls' := [some (vR 27 r0), none, none, none, none]) (st' := []) (And.intro (Or.inl rfl) (trivial)) (trivial) ?_
  exact w_X33_check_98 w
def W_X33_check_75 (D : JD) (d : Nat) (Q : JO → JH → Prop) (r0 : Nat) (r2 : Nat) (r3 : Nat) (h : JH) : Prop :=
  W_X33_check_84 D d Q r0 r2 r3 (jcs D 346) h
theorem w_X33_check_75 {D : JD} {d : Nat} {Q : JO → JH → Prop} {r0 : Nat} {r2 : Nat} {r3 : Nat} {h : JH} (w : W_X33_check_75 D d Q r0 r2 r3 h) : JW D (d + 1) mX33_check 75 [some (vR 27 r0), none, some (vR 52 r2), some (vR 52 r3), none] [] h Q := by
  unfold W_X33_check_75 at w
  refine jw_getsR (pc' := 78) rfl rfl rfl rfl ?_
  refine jw_goto (pc' := 84) rfl rfl ?_
  exact w_X33_check_84 w
def W_X33_check_17 (D : JD) (d : Nat) (Q : JO → JH → Prop) (r0 : Nat) (r2 : Nat) (q0 : Nat) (h : JH) : Prop :=
  r0 ≠ 0 ∧ (cX33_compares D d r0 h (pI D h (fun v_4 h_2 => (v_4 = 0 → (jfr h_2 123 r0) ≠ 0 ∧ (cJ11_ordinal D d (jfr h_2 123 r0) h_2 (pI D h_2 (fun v_9 h_7 => (jcs D 363) ≠ 0 ∧ (cJ11_ordinal D d (jcs D 363) h_7 (pI D h_7 (fun v_13 h_11 => (v_13 ≤ v_9 → ((jfr h_11 123 r0) = (jcs D 363) → W_X33_check_75 D d Q r0 r2 q0 h_11) ∧ (¬ (jfr h_11 123 r0) = (jcs D 363) → (¬ (jfr h_11 123 r0) = (jcs D 370) → W_X33_check_84 D d Q r0 r2 q0 (jcs D 357) h_11) ∧ ((jfr h_11 123 r0) = (jcs D 370) → W_X33_check_75 D d Q r0 r2 q0 h_11))) ∧ (¬ v_13 ≤ v_9 → W_X33_check_84 D d Q r0 r2 q0 (jcs D 356) h_11)) (jth Q)))) (jth Q)))) ∧ (¬ v_4 = 0 → cX24_need D d r2 q0 h_2 (pV D h_2 (fun h_17 => W_X33_check_98 D d Q r0 h_17) (jth Q)))) (jth Q)))
theorem w_X33_check_17 {D : JD} {d : Nat} {Q : JO → JH → Prop} {r0 : Nat} {r2 : Nat} {q0 : Nat} {h : JH} (w : W_X33_check_17 D d Q r0 r2 q0 h) : JW D (d + 1) mX33_check 17 [some (vR 27 r0), none, some (vR 52 r2), none, none] [vR 52 q0] h Q := by
  unfold W_X33_check_17 at w
  refine jw_astore_n (pc' := 18) (ls' := [some (vR 27 r0), none, some (vR 52 r2), some (vR 52 q0), none]) rfl (by decide) rfl ?_
  refine jw_aload_n (pc' := 19) rfl rfl ?_
  obtain ⟨g_1, w⟩ := w
  refine jw_cI (st := []) (sa := [vR 27 r0]) okX33_compares rfl rfl rfl rfl rfl rfl (jstp_virtual (sa := []) (st := []) (k := 0) rfl rfl sX33_compares okX33_compares g_1 (one27.k g_1) rfl rfl) w (fun v_4 h_2 _ _ w => ?_)
  refine jw_if_eq (tgt := 33) (pc' := 25) rfl rfl (fun c_5 => ?_) (fun c_5 => ?_)
  · replace w := w.1 c_5
    refine jw_aload_n (pc' := 34) rfl rfl ?_
    refine jw_getR (pc' := 37) (F := 123) (t' := 54) rfl rfl rfl rfl rfl g_1 ?_
    obtain ⟨g_6, w⟩ := w
    refine jw_cI (st := []) (sa := [vR 54 (jfr h_2 123 r0)]) okJ11_ordinal rfl rfl rfl rfl rfl rfl (jstp_up (sa := []) (st := []) rfl (lw_g (jtb_mem (c := 10) (i := 122) rfl) rfl) um111 okJ11_ordinal g_6 (one54.k g_6) rfl rfl) w (fun v_9 h_7 _ _ w => ?_)
    refine jw_getsR (pc' := 43) rfl rfl rfl rfl ?_
    obtain ⟨g_10, w⟩ := w
    refine jw_cI (st := [vI v_9]) (sa := [vR 54 (jcs D 363)]) okJ11_ordinal rfl rfl rfl rfl rfl rfl (jstp_up (sa := []) (st := [vI v_9]) rfl (lw_g (jtb_mem (c := 10) (i := 122) rfl) rfl) um111 okJ11_ordinal g_10 (one54.k g_10) rfl rfl) w (fun v_13 h_11 _ _ w => ?_)
    refine jw_icmp_ge (tgt := 55) (pc' := 49) rfl rfl (fun c_14 => ?_) (fun c_14 => ?_)
    · replace w := w.1 c_14
      refine jw_aload_n (pc' := 56) rfl rfl ?_
      refine jw_getR (pc' := 59) (F := 123) (t' := 54) rfl rfl rfl rfl rfl g_1 ?_
      refine jw_getsR (pc' := 62) rfl rfl rfl rfl ?_
      refine jw_acmp_eq (tgt := 75) (pc' := 65) rfl rfl (fun c_15 => ?_) (fun c_15 => ?_)
      · replace w := w.1 c_15
        exact w_X33_check_75 w
      · replace w := w.2 c_15
        refine jw_aload_n (pc' := 66) rfl rfl ?_
        refine jw_getR (pc' := 69) (F := 123) (t' := 54) rfl rfl rfl rfl rfl g_1 ?_
        refine jw_getsR (pc' := 72) rfl rfl rfl rfl ?_
        refine jw_acmp_ne (tgt := 81) (pc' := 75) rfl rfl (fun c_16 => ?_) (fun c_16 => ?_)
        · replace w := w.1 c_16
          refine jw_getsR (pc' := 84) rfl rfl rfl rfl ?_
          exact w_X33_check_84 w
        · replace w := w.2 c_16
          exact w_X33_check_75 w
    · replace w := w.2 c_14
      refine jw_getsR (pc' := 52) rfl rfl rfl rfl ?_
      refine jw_goto (pc' := 84) rfl rfl ?_
      exact w_X33_check_84 w
  · replace w := w.2 c_5
    refine jw_aload_n (pc' := 26) rfl rfl ?_
    refine jw_aload_n (pc' := 27) rfl rfl ?_
    refine jw_cV (st := []) (sa := [vR 52 r2, vR 52 q0]) okX24_need rfl rfl rfl rfl rfl rfl (jstp_staticUp (sa := [vR 52 r2, vR 52 q0]) (st := []) rfl (lw_g (jtb_mem (c := 10) (i := 127) rfl) rfl) (lw_g (jtb_mem (c := 10) (i := 128) rfl) rfl) rfl sX24_need okX24_need rfl rfl) w (fun h_17 _ _ w => ?_)
    refine jw_goto (pc' := 98) rfl rfl ?_
    refine jw_gen (ls' := [some (vR 27 r0), none, none, none, none]) (st' := []) (And.intro (Or.inl rfl) (trivial)) (trivial) ?_
    exact w_X33_check_98 w
def W_X33_check_8 (D : JD) (d : Nat) (Q : JO → JH → Prop) (r0 : Nat) (r1 : Nat) (q0 : Nat) (h : JH) : Prop :=
  r0 ≠ 0 ∧ ((jfr h 125 r0) ≠ 0 ∧ (v55_check D d (jfr h 125 r0) r1 h (pR D h 52 (fun v_5 h_3 => W_X33_check_17 D d Q r0 q0 v_5 h_3) (jth Q))))
theorem w_X33_check_8 {D : JD} {d : Nat} {Q : JO → JH → Prop} {r0 : Nat} {r1 : Nat} {q0 : Nat} {h : JH} (w : W_X33_check_8 D d Q r0 r1 q0 h) : JW D (d + 1) mX33_check 8 [some (vR 27 r0), some (vR 6 r1), none, none, none] [vR 52 q0] h Q := by
  unfold W_X33_check_8 at w
  refine jw_astore_n (pc' := 9) (ls' := [some (vR 27 r0), some (vR 6 r1), some (vR 52 q0), none, none]) rfl (by decide) rfl ?_
  refine jw_aload_n (pc' := 10) rfl rfl ?_
  obtain ⟨g_1, w⟩ := w
  refine jw_getR (pc' := 13) (F := 125) (t' := 55) rfl rfl rfl rfl rfl g_1 ?_
  refine jw_aload_n (pc' := 14) rfl rfl ?_
  obtain ⟨g_2, w⟩ := w
  refine JW.inv (fun hI => JW.oks (fun ho => ?_))
  have hkd := und55.k hI (ho (vR 55 (jfr h 125 r0)) (by simp)) g_2
  simp only [List.mem_cons, List.not_mem_nil, or_false] at hkd
  clear ho hI
  rcases hkd with e_6 | e_6 | e_6 | e_6 | e_6 | e_6 | e_6 | e_6 | e_6 | e_6
  · refine jw_gen (ls' := _) (st' := [vR 6 r1, vR 20 (jfr h 125 r0)]) (jgl_rf _ _) (And.intro (Or.inl rfl) (And.intro (Or.inr ⟨_, _, _, rfl, rfl, Or.inr (Or.inr (by rw [e_6]; rfl))⟩) (jgs_rf _ _))) ?_
    refine jw_cR (st := []) (sa := [vR 20 (jfr h 125 r0), vR 6 r1]) okX25_check rfl rfl rfl rfl rfl rfl (jstp_up (sa := [vR 6 r1]) (st := []) rfl (lw_g (jtb_mem (c := 10) (i := 84) rfl) rfl) um18 okX25_check g_2 (fun _ _ => by rw [e_6]; exact ⟨rfl, rfl⟩) rfl rfl) (w.1 e_6) (fun v_5 h_3 _ _ _ w => ?_)
    refine jw_gen (ls' := [some (vR 27 r0), none, some (vR 52 q0), none, none]) (st' := [vR 52 v_5]) (And.intro (Or.inl rfl) (And.intro (Or.inl rfl) (trivial))) (And.intro (Or.inl rfl) (trivial)) ?_
    exact w_X33_check_17 w
  · refine jw_gen (ls' := _) (st' := [vR 6 r1, vR 21 (jfr h 125 r0)]) (jgl_rf _ _) (And.intro (Or.inl rfl) (And.intro (Or.inr ⟨_, _, _, rfl, rfl, Or.inr (Or.inr (by rw [e_6]; rfl))⟩) (jgs_rf _ _))) ?_
    refine jw_cR (st := []) (sa := [vR 21 (jfr h 125 r0), vR 6 r1]) okX27_check rfl rfl rfl rfl rfl rfl (jstp_up (sa := [vR 6 r1]) (st := []) rfl (lw_g (jtb_mem (c := 10) (i := 84) rfl) rfl) um19 okX27_check g_2 (fun _ _ => by rw [e_6]; exact ⟨rfl, rfl⟩) rfl rfl) (w.2.1 e_6) (fun v_5 h_3 _ _ _ w => ?_)
    refine jw_gen (ls' := [some (vR 27 r0), none, some (vR 52 q0), none, none]) (st' := [vR 52 v_5]) (And.intro (Or.inl rfl) (And.intro (Or.inl rfl) (trivial))) (And.intro (Or.inl rfl) (trivial)) ?_
    exact w_X33_check_17 w
  · refine jw_gen (ls' := _) (st' := [vR 6 r1, vR 22 (jfr h 125 r0)]) (jgl_rf _ _) (And.intro (Or.inl rfl) (And.intro (Or.inr ⟨_, _, _, rfl, rfl, Or.inr (Or.inr (by rw [e_6]; rfl))⟩) (jgs_rf _ _))) ?_
    refine jw_cR (st := []) (sa := [vR 22 (jfr h 125 r0), vR 6 r1]) okX28_check rfl rfl rfl rfl rfl rfl (jstp_up (sa := [vR 6 r1]) (st := []) rfl (lw_g (jtb_mem (c := 10) (i := 84) rfl) rfl) um20 okX28_check g_2 (fun _ _ => by rw [e_6]; exact ⟨rfl, rfl⟩) rfl rfl) (w.2.2.1 e_6) (fun v_5 h_3 _ _ _ w => ?_)
    refine jw_gen (ls' := [some (vR 27 r0), none, some (vR 52 q0), none, none]) (st' := [vR 52 v_5]) (And.intro (Or.inl rfl) (And.intro (Or.inl rfl) (trivial))) (And.intro (Or.inl rfl) (trivial)) ?_
    exact w_X33_check_17 w
  · refine jw_gen (ls' := _) (st' := [vR 6 r1, vR 23 (jfr h 125 r0)]) (jgl_rf _ _) (And.intro (Or.inl rfl) (And.intro (Or.inr ⟨_, _, _, rfl, rfl, Or.inr (Or.inr (by rw [e_6]; rfl))⟩) (jgs_rf _ _))) ?_
    refine jw_cR (st := []) (sa := [vR 23 (jfr h 125 r0), vR 6 r1]) okX29_check rfl rfl rfl rfl rfl rfl (jstp_up (sa := [vR 6 r1]) (st := []) rfl (lw_g (jtb_mem (c := 10) (i := 84) rfl) rfl) um21 okX29_check g_2 (fun _ _ => by rw [e_6]; exact ⟨rfl, rfl⟩) rfl rfl) (w.2.2.2.1 e_6) (fun v_5 h_3 _ _ _ w => ?_)
    refine jw_gen (ls' := [some (vR 27 r0), none, some (vR 52 q0), none, none]) (st' := [vR 52 v_5]) (And.intro (Or.inl rfl) (And.intro (Or.inl rfl) (trivial))) (And.intro (Or.inl rfl) (trivial)) ?_
    exact w_X33_check_17 w
  · refine jw_gen (ls' := _) (st' := [vR 6 r1, vR 24 (jfr h 125 r0)]) (jgl_rf _ _) (And.intro (Or.inl rfl) (And.intro (Or.inr ⟨_, _, _, rfl, rfl, Or.inr (Or.inr (by rw [e_6]; rfl))⟩) (jgs_rf _ _))) ?_
    refine jw_cR (st := []) (sa := [vR 24 (jfr h 125 r0), vR 6 r1]) okX30_check rfl rfl rfl rfl rfl rfl (jstp_up (sa := [vR 6 r1]) (st := []) rfl (lw_g (jtb_mem (c := 10) (i := 84) rfl) rfl) um22 okX30_check g_2 (fun _ _ => by rw [e_6]; exact ⟨rfl, rfl⟩) rfl rfl) (w.2.2.2.2.1 e_6) (fun v_5 h_3 _ _ _ w => ?_)
    refine jw_gen (ls' := [some (vR 27 r0), none, some (vR 52 q0), none, none]) (st' := [vR 52 v_5]) (And.intro (Or.inl rfl) (And.intro (Or.inl rfl) (trivial))) (And.intro (Or.inl rfl) (trivial)) ?_
    exact w_X33_check_17 w
  · refine jw_gen (ls' := _) (st' := [vR 6 r1, vR 25 (jfr h 125 r0)]) (jgl_rf _ _) (And.intro (Or.inl rfl) (And.intro (Or.inr ⟨_, _, _, rfl, rfl, Or.inr (Or.inr (by rw [e_6]; rfl))⟩) (jgs_rf _ _))) ?_
    refine jw_cR (st := []) (sa := [vR 25 (jfr h 125 r0), vR 6 r1]) okX31_check rfl rfl rfl rfl rfl rfl (jstp_up (sa := [vR 6 r1]) (st := []) rfl (lw_g (jtb_mem (c := 10) (i := 84) rfl) rfl) um23 okX31_check g_2 (fun _ _ => by rw [e_6]; exact ⟨rfl, rfl⟩) rfl rfl) (w.2.2.2.2.2.1 e_6) (fun v_5 h_3 _ _ _ w => ?_)
    refine jw_gen (ls' := [some (vR 27 r0), none, some (vR 52 q0), none, none]) (st' := [vR 52 v_5]) (And.intro (Or.inl rfl) (And.intro (Or.inl rfl) (trivial))) (And.intro (Or.inl rfl) (trivial)) ?_
    exact w_X33_check_17 w
  · refine jw_gen (ls' := _) (st' := [vR 6 r1, vR 26 (jfr h 125 r0)]) (jgl_rf _ _) (And.intro (Or.inl rfl) (And.intro (Or.inr ⟨_, _, _, rfl, rfl, Or.inr (Or.inr (by rw [e_6]; rfl))⟩) (jgs_rf _ _))) ?_
    refine jw_cR (st := []) (sa := [vR 26 (jfr h 125 r0), vR 6 r1]) okX32_check rfl rfl rfl rfl rfl rfl (jstp_up (sa := [vR 6 r1]) (st := []) rfl (lw_g (jtb_mem (c := 10) (i := 84) rfl) rfl) um24 okX32_check g_2 (fun _ _ => by rw [e_6]; exact ⟨rfl, rfl⟩) rfl rfl) (w.2.2.2.2.2.2.1 e_6) (fun v_5 h_3 _ _ _ w => ?_)
    refine jw_gen (ls' := [some (vR 27 r0), none, some (vR 52 q0), none, none]) (st' := [vR 52 v_5]) (And.intro (Or.inl rfl) (And.intro (Or.inl rfl) (trivial))) (And.intro (Or.inl rfl) (trivial)) ?_
    exact w_X33_check_17 w
  · refine jw_gen (ls' := _) (st' := [vR 6 r1, vR 27 (jfr h 125 r0)]) (jgl_rf _ _) (And.intro (Or.inl rfl) (And.intro (Or.inr ⟨_, _, _, rfl, rfl, Or.inr (Or.inr (by rw [e_6]; rfl))⟩) (jgs_rf _ _))) ?_
    refine jw_cR (st := []) (sa := [vR 27 (jfr h 125 r0), vR 6 r1]) okX33_check rfl rfl rfl rfl rfl rfl (jstp_up (sa := [vR 6 r1]) (st := []) rfl (lw_g (jtb_mem (c := 10) (i := 84) rfl) rfl) um25 okX33_check g_2 (fun _ _ => by rw [e_6]; exact ⟨rfl, rfl⟩) rfl rfl) (w.2.2.2.2.2.2.2.1 e_6) (fun v_5 h_3 _ _ _ w => ?_)
    refine jw_gen (ls' := [some (vR 27 r0), none, some (vR 52 q0), none, none]) (st' := [vR 52 v_5]) (And.intro (Or.inl rfl) (And.intro (Or.inl rfl) (trivial))) (And.intro (Or.inl rfl) (trivial)) ?_
    exact w_X33_check_17 w
  · refine jw_gen (ls' := _) (st' := [vR 6 r1, vR 28 (jfr h 125 r0)]) (jgl_rf _ _) (And.intro (Or.inl rfl) (And.intro (Or.inr ⟨_, _, _, rfl, rfl, Or.inr (Or.inr (by rw [e_6]; rfl))⟩) (jgs_rf _ _))) ?_
    refine jw_cR (st := []) (sa := [vR 28 (jfr h 125 r0), vR 6 r1]) okX34_check rfl rfl rfl rfl rfl rfl (jstp_up (sa := [vR 6 r1]) (st := []) rfl (lw_g (jtb_mem (c := 10) (i := 84) rfl) rfl) um26 okX34_check g_2 (fun _ _ => by rw [e_6]; exact ⟨rfl, rfl⟩) rfl rfl) (w.2.2.2.2.2.2.2.2.1 e_6) (fun v_5 h_3 _ _ _ w => ?_)
    refine jw_gen (ls' := [some (vR 27 r0), none, some (vR 52 q0), none, none]) (st' := [vR 52 v_5]) (And.intro (Or.inl rfl) (And.intro (Or.inl rfl) (trivial))) (And.intro (Or.inl rfl) (trivial)) ?_
    exact w_X33_check_17 w
  · refine jw_gen (ls' := _) (st' := [vR 6 r1, vR 29 (jfr h 125 r0)]) (jgl_rf _ _) (And.intro (Or.inl rfl) (And.intro (Or.inr ⟨_, _, _, rfl, rfl, Or.inr (Or.inr (by rw [e_6]; rfl))⟩) (jgs_rf _ _))) ?_
    refine jw_cR (st := []) (sa := [vR 29 (jfr h 125 r0), vR 6 r1]) okX35_check rfl rfl rfl rfl rfl rfl (jstp_up (sa := [vR 6 r1]) (st := []) rfl (lw_g (jtb_mem (c := 10) (i := 84) rfl) rfl) um27 okX35_check g_2 (fun _ _ => by rw [e_6]; exact ⟨rfl, rfl⟩) rfl rfl) (w.2.2.2.2.2.2.2.2.2 e_6) (fun v_5 h_3 _ _ _ w => ?_)
    refine jw_gen (ls' := [some (vR 27 r0), none, some (vR 52 q0), none, none]) (st' := [vR 52 v_5]) (And.intro (Or.inl rfl) (And.intro (Or.inl rfl) (trivial))) (And.intro (Or.inl rfl) (trivial)) ?_
    exact w_X33_check_17 w
def W_X33_check_0 (D : JD) (d : Nat) (Q : JO → JH → Prop) (r0 : Nat) (r1 : Nat) (h : JH) : Prop :=
  r0 ≠ 0 ∧ ((jfr h 124 r0) ≠ 0 ∧ (v55_check D d (jfr h 124 r0) r1 h (pR D h 52 (fun v_5 h_3 => W_X33_check_8 D d Q r0 r1 v_5 h_3) (jth Q))))
theorem w_X33_check_0 {D : JD} {d : Nat} {Q : JO → JH → Prop} {r0 : Nat} {r1 : Nat} {h : JH} (w : W_X33_check_0 D d Q r0 r1 h) : JW D (d + 1) mX33_check 0 [some (vR 27 r0), some (vR 6 r1), none, none, none] [] h Q := by
  unfold W_X33_check_0 at w
  refine jw_aload_n (pc' := 1) rfl rfl ?_
  obtain ⟨g_1, w⟩ := w
  refine jw_getR (pc' := 4) (F := 124) (t' := 55) rfl rfl rfl rfl rfl g_1 ?_
  refine jw_aload_n (pc' := 5) rfl rfl ?_
  obtain ⟨g_2, w⟩ := w
  refine JW.inv (fun hI => JW.oks (fun ho => ?_))
  have hkd := und55.k hI (ho (vR 55 (jfr h 124 r0)) (by simp)) g_2
  simp only [List.mem_cons, List.not_mem_nil, or_false] at hkd
  clear ho hI
  rcases hkd with e_6 | e_6 | e_6 | e_6 | e_6 | e_6 | e_6 | e_6 | e_6 | e_6
  · refine jw_gen (ls' := _) (st' := [vR 6 r1, vR 20 (jfr h 124 r0)]) (jgl_rf _ _) (And.intro (Or.inl rfl) (And.intro (Or.inr ⟨_, _, _, rfl, rfl, Or.inr (Or.inr (by rw [e_6]; rfl))⟩) (jgs_rf _ _))) ?_
    refine jw_cR (st := []) (sa := [vR 20 (jfr h 124 r0), vR 6 r1]) okX25_check rfl rfl rfl rfl rfl rfl (jstp_up (sa := [vR 6 r1]) (st := []) rfl (lw_g (jtb_mem (c := 10) (i := 84) rfl) rfl) um18 okX25_check g_2 (fun _ _ => by rw [e_6]; exact ⟨rfl, rfl⟩) rfl rfl) (w.1 e_6) (fun v_5 h_3 _ _ _ w => ?_)
    exact w_X33_check_8 w
  · refine jw_gen (ls' := _) (st' := [vR 6 r1, vR 21 (jfr h 124 r0)]) (jgl_rf _ _) (And.intro (Or.inl rfl) (And.intro (Or.inr ⟨_, _, _, rfl, rfl, Or.inr (Or.inr (by rw [e_6]; rfl))⟩) (jgs_rf _ _))) ?_
    refine jw_cR (st := []) (sa := [vR 21 (jfr h 124 r0), vR 6 r1]) okX27_check rfl rfl rfl rfl rfl rfl (jstp_up (sa := [vR 6 r1]) (st := []) rfl (lw_g (jtb_mem (c := 10) (i := 84) rfl) rfl) um19 okX27_check g_2 (fun _ _ => by rw [e_6]; exact ⟨rfl, rfl⟩) rfl rfl) (w.2.1 e_6) (fun v_5 h_3 _ _ _ w => ?_)
    exact w_X33_check_8 w
  · refine jw_gen (ls' := _) (st' := [vR 6 r1, vR 22 (jfr h 124 r0)]) (jgl_rf _ _) (And.intro (Or.inl rfl) (And.intro (Or.inr ⟨_, _, _, rfl, rfl, Or.inr (Or.inr (by rw [e_6]; rfl))⟩) (jgs_rf _ _))) ?_
    refine jw_cR (st := []) (sa := [vR 22 (jfr h 124 r0), vR 6 r1]) okX28_check rfl rfl rfl rfl rfl rfl (jstp_up (sa := [vR 6 r1]) (st := []) rfl (lw_g (jtb_mem (c := 10) (i := 84) rfl) rfl) um20 okX28_check g_2 (fun _ _ => by rw [e_6]; exact ⟨rfl, rfl⟩) rfl rfl) (w.2.2.1 e_6) (fun v_5 h_3 _ _ _ w => ?_)
    exact w_X33_check_8 w
  · refine jw_gen (ls' := _) (st' := [vR 6 r1, vR 23 (jfr h 124 r0)]) (jgl_rf _ _) (And.intro (Or.inl rfl) (And.intro (Or.inr ⟨_, _, _, rfl, rfl, Or.inr (Or.inr (by rw [e_6]; rfl))⟩) (jgs_rf _ _))) ?_
    refine jw_cR (st := []) (sa := [vR 23 (jfr h 124 r0), vR 6 r1]) okX29_check rfl rfl rfl rfl rfl rfl (jstp_up (sa := [vR 6 r1]) (st := []) rfl (lw_g (jtb_mem (c := 10) (i := 84) rfl) rfl) um21 okX29_check g_2 (fun _ _ => by rw [e_6]; exact ⟨rfl, rfl⟩) rfl rfl) (w.2.2.2.1 e_6) (fun v_5 h_3 _ _ _ w => ?_)
    exact w_X33_check_8 w
  · refine jw_gen (ls' := _) (st' := [vR 6 r1, vR 24 (jfr h 124 r0)]) (jgl_rf _ _) (And.intro (Or.inl rfl) (And.intro (Or.inr ⟨_, _, _, rfl, rfl, Or.inr (Or.inr (by rw [e_6]; rfl))⟩) (jgs_rf _ _))) ?_
    refine jw_cR (st := []) (sa := [vR 24 (jfr h 124 r0), vR 6 r1]) okX30_check rfl rfl rfl rfl rfl rfl (jstp_up (sa := [vR 6 r1]) (st := []) rfl (lw_g (jtb_mem (c := 10) (i := 84) rfl) rfl) um22 okX30_check g_2 (fun _ _ => by rw [e_6]; exact ⟨rfl, rfl⟩) rfl rfl) (w.2.2.2.2.1 e_6) (fun v_5 h_3 _ _ _ w => ?_)
    exact w_X33_check_8 w
  · refine jw_gen (ls' := _) (st' := [vR 6 r1, vR 25 (jfr h 124 r0)]) (jgl_rf _ _) (And.intro (Or.inl rfl) (And.intro (Or.inr ⟨_, _, _, rfl, rfl, Or.inr (Or.inr (by rw [e_6]; rfl))⟩) (jgs_rf _ _))) ?_
    refine jw_cR (st := []) (sa := [vR 25 (jfr h 124 r0), vR 6 r1]) okX31_check rfl rfl rfl rfl rfl rfl (jstp_up (sa := [vR 6 r1]) (st := []) rfl (lw_g (jtb_mem (c := 10) (i := 84) rfl) rfl) um23 okX31_check g_2 (fun _ _ => by rw [e_6]; exact ⟨rfl, rfl⟩) rfl rfl) (w.2.2.2.2.2.1 e_6) (fun v_5 h_3 _ _ _ w => ?_)
    exact w_X33_check_8 w
  · refine jw_gen (ls' := _) (st' := [vR 6 r1, vR 26 (jfr h 124 r0)]) (jgl_rf _ _) (And.intro (Or.inl rfl) (And.intro (Or.inr ⟨_, _, _, rfl, rfl, Or.inr (Or.inr (by rw [e_6]; rfl))⟩) (jgs_rf _ _))) ?_
    refine jw_cR (st := []) (sa := [vR 26 (jfr h 124 r0), vR 6 r1]) okX32_check rfl rfl rfl rfl rfl rfl (jstp_up (sa := [vR 6 r1]) (st := []) rfl (lw_g (jtb_mem (c := 10) (i := 84) rfl) rfl) um24 okX32_check g_2 (fun _ _ => by rw [e_6]; exact ⟨rfl, rfl⟩) rfl rfl) (w.2.2.2.2.2.2.1 e_6) (fun v_5 h_3 _ _ _ w => ?_)
    exact w_X33_check_8 w
  · refine jw_gen (ls' := _) (st' := [vR 6 r1, vR 27 (jfr h 124 r0)]) (jgl_rf _ _) (And.intro (Or.inl rfl) (And.intro (Or.inr ⟨_, _, _, rfl, rfl, Or.inr (Or.inr (by rw [e_6]; rfl))⟩) (jgs_rf _ _))) ?_
    refine jw_cR (st := []) (sa := [vR 27 (jfr h 124 r0), vR 6 r1]) okX33_check rfl rfl rfl rfl rfl rfl (jstp_up (sa := [vR 6 r1]) (st := []) rfl (lw_g (jtb_mem (c := 10) (i := 84) rfl) rfl) um25 okX33_check g_2 (fun _ _ => by rw [e_6]; exact ⟨rfl, rfl⟩) rfl rfl) (w.2.2.2.2.2.2.2.1 e_6) (fun v_5 h_3 _ _ _ w => ?_)
    exact w_X33_check_8 w
  · refine jw_gen (ls' := _) (st' := [vR 6 r1, vR 28 (jfr h 124 r0)]) (jgl_rf _ _) (And.intro (Or.inl rfl) (And.intro (Or.inr ⟨_, _, _, rfl, rfl, Or.inr (Or.inr (by rw [e_6]; rfl))⟩) (jgs_rf _ _))) ?_
    refine jw_cR (st := []) (sa := [vR 28 (jfr h 124 r0), vR 6 r1]) okX34_check rfl rfl rfl rfl rfl rfl (jstp_up (sa := [vR 6 r1]) (st := []) rfl (lw_g (jtb_mem (c := 10) (i := 84) rfl) rfl) um26 okX34_check g_2 (fun _ _ => by rw [e_6]; exact ⟨rfl, rfl⟩) rfl rfl) (w.2.2.2.2.2.2.2.2.1 e_6) (fun v_5 h_3 _ _ _ w => ?_)
    exact w_X33_check_8 w
  · refine jw_gen (ls' := _) (st' := [vR 6 r1, vR 29 (jfr h 124 r0)]) (jgl_rf _ _) (And.intro (Or.inl rfl) (And.intro (Or.inr ⟨_, _, _, rfl, rfl, Or.inr (Or.inr (by rw [e_6]; rfl))⟩) (jgs_rf _ _))) ?_
    refine jw_cR (st := []) (sa := [vR 29 (jfr h 124 r0), vR 6 r1]) okX35_check rfl rfl rfl rfl rfl rfl (jstp_up (sa := [vR 6 r1]) (st := []) rfl (lw_g (jtb_mem (c := 10) (i := 84) rfl) rfl) um27 okX35_check g_2 (fun _ _ => by rw [e_6]; exact ⟨rfl, rfl⟩) rfl rfl) (w.2.2.2.2.2.2.2.2.2 e_6) (fun v_5 h_3 _ _ _ w => ?_)
    exact w_X33_check_8 w
def T_X33_check (D : JD) (d : Nat) (Q : JO → JH → Prop) (r0 : Nat) (r1 : Nat) (h : JH) : Prop := W_X33_check_0 D d Q r0 r1 h
theorem t_X33_check {D : JD} {d : Nat} {Q : JO → JH → Prop} {r0 : Nat} {r1 : Nat} {h : JH} (w : T_X33_check D d Q r0 r1 h) : cX33_check D (d + 1) r0 r1 h Q := by
  unfold T_X33_check at w
  unfold cX33_check
  exact w_X33_check_0 w
def W_X33_compares_37 (D : JD) (d : Nat) (Q : JO → JH → Prop) (s0 : Int32) (h : JH) : Prop :=
  jbo s0 ∧ (Q (.inl (some (vI s0))) h)
theorem w_X33_compares_37 {D : JD} {d : Nat} {Q : JO → JH → Prop} {s0 : Int32} {h : JH} (w : W_X33_compares_37 D d Q s0 h) : JW D (d + 1) mX33_compares 37 [none] [vI s0] h Q := by
  unfold W_X33_compares_37 at w
  obtain ⟨g_1, w⟩ := w
  exact jw_ireturn rfl rfl (g_1.nr) w
def W_X33_compares_36 (D : JD) (d : Nat) (Q : JO → JH → Prop) (h : JH) : Prop :=
  W_X33_compares_37 D d Q (0 : Int32) h
theorem w_X33_compares_36 {D : JD} {d : Nat} {Q : JO → JH → Prop} {h : JH} (w : W_X33_compares_36 D d Q h) : JW D (d + 1) mX33_compares 36 [none] [] h Q := by
  unfold W_X33_compares_36 at w
  refine jw_iconst (pc' := 37) (x := (0 : Int32)) rfl rfl ?_
  exact w_X33_compares_37 w
def W_X33_compares_0 (D : JD) (d : Nat) (Q : JO → JH → Prop) (r0 : Nat) (h : JH) : Prop :=
  r0 ≠ 0 ∧ ((jfr h 123 r0) ≠ 0 ∧ (cJ11_ordinal D d (jfr h 123 r0) h (pI D h (fun v_5 h_3 => (jcs D 364) ≠ 0 ∧ (cJ11_ordinal D d (jcs D 364) h_3 (pI D h_3 (fun v_9 h_7 => (v_5 < v_9 → W_X33_compares_36 D d Q h_7) ∧ (¬ v_5 < v_9 → (jfr h_7 123 r0) ≠ 0 ∧ (cJ11_ordinal D d (jfr h_7 123 r0) h_7 (pI D h_7 (fun v_14 h_12 => (jcs D 369) ≠ 0 ∧ (cJ11_ordinal D d (jcs D 369) h_12 (pI D h_12 (fun v_18 h_16 => (v_18 < v_14 → W_X33_compares_36 D d Q h_16) ∧ (¬ v_18 < v_14 → W_X33_compares_37 D d Q (1 : Int32) h_16)) (jth Q)))) (jth Q))))) (jth Q)))) (jth Q))))
theorem w_X33_compares_0 {D : JD} {d : Nat} {Q : JO → JH → Prop} {r0 : Nat} {h : JH} (w : W_X33_compares_0 D d Q r0 h) : JW D (d + 1) mX33_compares 0 [some (vR 27 r0)] [] h Q := by
  unfold W_X33_compares_0 at w
  refine jw_aload_n (pc' := 1) rfl rfl ?_
  obtain ⟨g_1, w⟩ := w
  refine jw_getR (pc' := 4) (F := 123) (t' := 54) rfl rfl rfl rfl rfl g_1 ?_
  obtain ⟨g_2, w⟩ := w
  refine jw_cI (st := []) (sa := [vR 54 (jfr h 123 r0)]) okJ11_ordinal rfl rfl rfl rfl rfl rfl (jstp_up (sa := []) (st := []) rfl (lw_g (jtb_mem (c := 10) (i := 122) rfl) rfl) um111 okJ11_ordinal g_2 (one54.k g_2) rfl rfl) w (fun v_5 h_3 _ _ w => ?_)
  refine jw_getsR (pc' := 10) rfl rfl rfl rfl ?_
  obtain ⟨g_6, w⟩ := w
  refine jw_cI (st := [vI v_5]) (sa := [vR 54 (jcs D 364)]) okJ11_ordinal rfl rfl rfl rfl rfl rfl (jstp_up (sa := []) (st := [vI v_5]) rfl (lw_g (jtb_mem (c := 10) (i := 122) rfl) rfl) um111 okJ11_ordinal g_6 (one54.k g_6) rfl rfl) w (fun v_9 h_7 _ _ w => ?_)
  refine jw_icmp_lt (tgt := 36) (pc' := 16) rfl rfl (fun c_10 => ?_) (fun c_10 => ?_)
  · replace w := w.1 c_10
    refine jw_gen (ls' := [none]) (st' := []) (trivial) (trivial) ?_
    exact w_X33_compares_36 w
  · replace w := w.2 c_10
    refine jw_aload_n (pc' := 17) rfl rfl ?_
    refine jw_getR (pc' := 20) (F := 123) (t' := 54) rfl rfl rfl rfl rfl g_1 ?_
    obtain ⟨g_11, w⟩ := w
    refine jw_cI (st := []) (sa := [vR 54 (jfr h_7 123 r0)]) okJ11_ordinal rfl rfl rfl rfl rfl rfl (jstp_up (sa := []) (st := []) rfl (lw_g (jtb_mem (c := 10) (i := 122) rfl) rfl) um111 okJ11_ordinal g_11 (one54.k g_11) rfl rfl) w (fun v_14 h_12 _ _ w => ?_)
    refine jw_getsR (pc' := 26) rfl rfl rfl rfl ?_
    obtain ⟨g_15, w⟩ := w
    refine jw_cI (st := [vI v_14]) (sa := [vR 54 (jcs D 369)]) okJ11_ordinal rfl rfl rfl rfl rfl rfl (jstp_up (sa := []) (st := [vI v_14]) rfl (lw_g (jtb_mem (c := 10) (i := 122) rfl) rfl) um111 okJ11_ordinal g_15 (one54.k g_15) rfl rfl) w (fun v_18 h_16 _ _ w => ?_)
    refine jw_icmp_gt (tgt := 36) (pc' := 32) rfl rfl (fun c_19 => ?_) (fun c_19 => ?_)
    · replace w := w.1 c_19
      refine jw_gen (ls' := [none]) (st' := []) (trivial) (trivial) ?_
      exact w_X33_compares_36 w
    · replace w := w.2 c_19
      refine jw_iconst (pc' := 33) (x := (1 : Int32)) rfl rfl ?_
      refine jw_goto (pc' := 37) rfl rfl ?_
      refine jw_gen (ls' := [none]) (st' := [vI (1 : Int32)]) (trivial) (And.intro (Or.inl rfl) (trivial)) ?_
      exact w_X33_compares_37 w
def T_X33_compares (D : JD) (d : Nat) (Q : JO → JH → Prop) (r0 : Nat) (h : JH) : Prop := W_X33_compares_0 D d Q r0 h
theorem t_X33_compares {D : JD} {d : Nat} {Q : JO → JH → Prop} {r0 : Nat} {h : JH} (w : T_X33_compares D d Q r0 h) : cX33_compares D (d + 1) r0 h Q := by
  unfold T_X33_compares at w
  unfold cX33_compares
  exact w_X33_compares_0 w
def W_X33_count_0 (D : JD) (d : Nat) (Q : JO → JH → Prop) (h : JH) : Prop :=
  Q (.inl (some (vI (2 : Int32)))) h
theorem w_X33_count_0 {D : JD} {d : Nat} {Q : JO → JH → Prop} {h : JH} (w : W_X33_count_0 D d Q h) : JW D (d + 1) mX33_count 0 [none] [] h Q := by
  unfold W_X33_count_0 at w
  refine jw_iconst (pc' := 1) (x := (2 : Int32)) rfl rfl ?_
  exact jw_ireturn rfl rfl (rfl) w
def T_X33_count (D : JD) (d : Nat) (Q : JO → JH → Prop) (r0 : Nat) (h : JH) : Prop := W_X33_count_0 D d Q h
theorem t_X33_count {D : JD} {d : Nat} {Q : JO → JH → Prop} {r0 : Nat} {h : JH} (w : T_X33_count D d Q r0 h) : cX33_count D (d + 1) r0 h Q := by
  unfold T_X33_count at w
  unfold cX33_count
  refine jw_gen (ls' := [none]) (st' := []) (trivial) (trivial) ?_
  exact w_X33_count_0 w
def W_X33_part_15 (D : JD) (d : Nat) (Q : JO → JH → Prop) (q0 : Nat) (h : JH) : Prop :=
  Q (.inl (some (vR 55 q0))) h
theorem w_X33_part_15 {D : JD} {d : Nat} {Q : JO → JH → Prop} {q0 : Nat} {h : JH} (w : W_X33_part_15 D d Q q0 h) : JW D (d + 1) mX33_part 15 [none, none] [vR 55 q0] h Q := by
  unfold W_X33_part_15 at w
  exact jw_areturn rfl rfl rfl rfl rfl w
def W_X33_part_0 (D : JD) (d : Nat) (Q : JO → JH → Prop) (r0 : Nat) (x1 : Int32) (h : JH) : Prop :=
  (¬ x1 = 0 → r0 ≠ 0 ∧ (W_X33_part_15 D d Q (jfr h 125 r0) h)) ∧ (x1 = 0 → r0 ≠ 0 ∧ (W_X33_part_15 D d Q (jfr h 124 r0) h))
theorem w_X33_part_0 {D : JD} {d : Nat} {Q : JO → JH → Prop} {r0 : Nat} {x1 : Int32} {h : JH} (w : W_X33_part_0 D d Q r0 x1 h) : JW D (d + 1) mX33_part 0 [some (vR 27 r0), some (vI x1)] [] h Q := by
  unfold W_X33_part_0 at w
  refine jw_iload_n (pc' := 1) rfl rfl ?_
  refine jw_if_ne (tgt := 11) (pc' := 4) rfl rfl (fun c_1 => ?_) (fun c_1 => ?_)
  · replace w := w.1 c_1
    refine jw_aload_n (pc' := 12) rfl rfl ?_
    obtain ⟨g_2, w⟩ := w
    refine jw_getR (pc' := 15) (F := 125) (t' := 55) rfl rfl rfl rfl rfl g_2 ?_
    refine jw_gen (ls' := [none, none]) (st' := [vR 55 (jfr h 125 r0)]) (trivial) (And.intro (Or.inl rfl) (trivial)) ?_
    exact w_X33_part_15 w
  · replace w := w.2 c_1
    refine jw_aload_n (pc' := 5) rfl rfl ?_
    obtain ⟨g_3, w⟩ := w
    refine jw_getR (pc' := 8) (F := 124) (t' := 55) rfl rfl rfl rfl rfl g_3 ?_
    refine jw_goto (pc' := 15) rfl rfl ?_
    refine jw_gen (ls' := [none, none]) (st' := [vR 55 (jfr h 124 r0)]) (trivial) (And.intro (Or.inl rfl) (trivial)) ?_
    exact w_X33_part_15 w
def T_X33_part (D : JD) (d : Nat) (Q : JO → JH → Prop) (r0 : Nat) (x1 : Int32) (h : JH) : Prop := W_X33_part_0 D d Q r0 x1 h
theorem t_X33_part {D : JD} {d : Nat} {Q : JO → JH → Prop} {r0 : Nat} {x1 : Int32} {h : JH} (w : T_X33_part D d Q r0 x1 h) : cX33_part D (d + 1) r0 x1 h Q := by
  unfold T_X33_part at w
  unfold cX33_part
  exact w_X33_part_0 w
def W_X33_like_34 (D : JD) (d : Nat) (Q : JO → JH → Prop) (s0 : Int32) (h : JH) : Prop :=
  jbo s0 ∧ (Q (.inl (some (vI s0))) h)
theorem w_X33_like_34 {D : JD} {d : Nat} {Q : JO → JH → Prop} {s0 : Int32} {h : JH} (w : W_X33_like_34 D d Q s0 h) : JW D (d + 1) mX33_like 34 [none, none] [vI s0] h Q := by
  unfold W_X33_like_34 at w
  obtain ⟨g_1, w⟩ := w
  exact jw_ireturn rfl rfl (g_1.nr) w
def W_X33_like_33 (D : JD) (d : Nat) (Q : JO → JH → Prop) (h : JH) : Prop :=
  W_X33_like_34 D d Q (0 : Int32) h
theorem w_X33_like_33 {D : JD} {d : Nat} {Q : JO → JH → Prop} {h : JH} (w : W_X33_like_33 D d Q h) : JW D (d + 1) mX33_like 33 [none, none] [] h Q := by
  unfold W_X33_like_33 at w
  refine jw_iconst (pc' := 34) (x := (0 : Int32)) rfl rfl ?_
  exact w_X33_like_34 w
def W_X33_like_0 (D : JD) (d : Nat) (Q : JO → JH → Prop) (r0 : Nat) (r1 : Nat) (h : JH) : Prop :=
  ((r1 ≠ 0 ∧ jkd h r1 = 27) → (r1 = 0 ∨ jkd h r1 = 27) ∧ (r1 ≠ 0 ∧ (r0 ≠ 0 ∧ ((¬ (jfr h 123 r1) = (jfr h 123 r0) → W_X33_like_33 D d Q h) ∧ ((jfr h 123 r1) = (jfr h 123 r0) → cX24_likeParts D d r0 r1 h (pI D h (fun v_9 h_7 => (v_9 = 0 → W_X33_like_33 D d Q h_7) ∧ (¬ v_9 = 0 → W_X33_like_34 D d Q (1 : Int32) h_7)) (jth Q))))))) ∧ (¬ (r1 ≠ 0 ∧ jkd h r1 = 27) → W_X33_like_33 D d Q h)
theorem w_X33_like_0 {D : JD} {d : Nat} {Q : JO → JH → Prop} {r0 : Nat} {r1 : Nat} {h : JH} (w : W_X33_like_0 D d Q r0 r1 h) : JW D (d + 1) mX33_like 0 [some (vR 27 r0), some (vR 55 r1)] [] h Q := by
  unfold W_X33_like_0 at w
  refine jw_aload_n (pc' := 1) rfl rfl ?_
  refine jw_inst (pc' := 4) (t := 55) (kt := 27) rfl rfl rfl rfl (by decide +kernel) (fun c_1 => ?_) (fun c_1 => ?_)
  · replace w := w.1 c_1
    refine jw_if_eq (tgt := 33) (pc' := 7) rfl rfl (fun c_2 => absurd c_2 (by decide)) (fun _ => ?_)
    refine jw_aload_n (pc' := 8) rfl rfl ?_
    obtain ⟨g_3, w⟩ := w
    refine jw_cast (pc' := 11) (t2 := 27) rfl rfl rfl rfl g_3 ?_
    obtain ⟨g_4, w⟩ := w
    refine jw_getR (pc' := 14) (F := 123) (t' := 54) rfl rfl rfl rfl rfl g_4 ?_
    refine jw_aload_n (pc' := 15) rfl rfl ?_
    obtain ⟨g_5, w⟩ := w
    refine jw_getR (pc' := 18) (F := 123) (t' := 54) rfl rfl rfl rfl rfl g_5 ?_
    refine jw_acmp_ne (tgt := 33) (pc' := 21) rfl rfl (fun c_6 => ?_) (fun c_6 => ?_)
    · replace w := w.1 c_6
      refine jw_gen (ls' := [none, none]) (st' := []) (trivial) (trivial) ?_
      exact w_X33_like_33 w
    · replace w := w.2 c_6
      refine jw_aload_n (pc' := 22) rfl rfl ?_
      refine jw_aload_n (pc' := 23) rfl rfl ?_
      refine jw_cI (st := []) (sa := [vR 27 r0, vR 55 r1]) okX24_likeParts rfl rfl rfl rfl rfl rfl (jstp_up (sa := [vR 55 r1]) (st := []) rfl (lw_g (jtb_mem (c := 11) (i := 78) rfl) rfl) um112 okX24_likeParts g_5 (one27.k g_5) rfl rfl) w (fun v_9 h_7 _ _ w => ?_)
      refine jw_if_eq (tgt := 33) (pc' := 29) rfl rfl (fun c_10 => ?_) (fun c_10 => ?_)
      · replace w := w.1 c_10
        refine jw_gen (ls' := [none, none]) (st' := []) (trivial) (trivial) ?_
        exact w_X33_like_33 w
      · replace w := w.2 c_10
        refine jw_iconst (pc' := 30) (x := (1 : Int32)) rfl rfl ?_
        refine jw_goto (pc' := 34) rfl rfl ?_
        refine jw_gen (ls' := [none, none]) (st' := [vI (1 : Int32)]) (trivial) (And.intro (Or.inl rfl) (trivial)) ?_
        exact w_X33_like_34 w
  · replace w := w.2 c_1
    refine jw_if_eq (tgt := 33) (pc' := 7) rfl rfl (fun _ => ?_) (fun c_11 => absurd c_11 (by decide))
    refine jw_gen (ls' := [none, none]) (st' := []) (trivial) (trivial) ?_
    exact w_X33_like_33 w
def T_X33_like (D : JD) (d : Nat) (Q : JO → JH → Prop) (r0 : Nat) (r1 : Nat) (h : JH) : Prop := W_X33_like_0 D d Q r0 r1 h
theorem t_X33_like {D : JD} {d : Nat} {Q : JO → JH → Prop} {r0 : Nat} {r1 : Nat} {h : JH} (w : T_X33_like D d Q r0 r1 h) : cX33_like D (d + 1) r0 r1 h Q := by
  unfold T_X33_like at w
  unfold cX33_like
  exact w_X33_like_0 w
def W_X33_at_20 (D : JD) (d : Nat) (Q : JO → JH → Prop) (r0 : Nat) (r1 : Nat) (h : JH) : Prop :=
  r0 ≠ 0 ∧ (cX33_logic D d r0 r1 h (pR D h 8 (fun v_4 h_2 => Q (.inl (some (vR 8 v_4))) h_2) (jth Q)))
theorem w_X33_at_20 {D : JD} {d : Nat} {Q : JO → JH → Prop} {r0 : Nat} {r1 : Nat} {h : JH} (w : W_X33_at_20 D d Q r0 r1 h) : JW D (d + 1) mX33_at 20 [some (vR 27 r0), some (vR 6 r1), none, none] [] h Q := by
  unfold W_X33_at_20 at w
  refine jw_aload_n (pc' := 21) rfl rfl ?_
  refine jw_aload_n (pc' := 22) rfl rfl ?_
  obtain ⟨g_1, w⟩ := w
  refine jw_cR (st := []) (sa := [vR 27 r0, vR 6 r1]) okX33_logic rfl rfl rfl rfl rfl rfl (jstp_virtual (sa := [vR 6 r1]) (st := []) (k := 0) rfl rfl sX33_logic okX33_logic g_1 (one27.k g_1) rfl rfl) w (fun v_4 h_2 _ _ _ w => ?_)
  exact jw_areturn rfl rfl rfl rfl rfl w
def W_X33_at_58 (D : JD) (d : Nat) (Q : JO → JH → Prop) (r0 : Nat) (h : JH) : Prop :=
  r0 ≠ 0 ∧ ((jfr h 108 r0) ≠ 0 ∧ (cX14_none D d (jfr h 108 r0) h (pR D h 8 (fun v_5 h_3 => Q (.inl (some (vR 8 v_5))) h_3) (jth Q))))
theorem w_X33_at_58 {D : JD} {d : Nat} {Q : JO → JH → Prop} {r0 : Nat} {h : JH} (w : W_X33_at_58 D d Q r0 h) : JW D (d + 1) mX33_at 58 [some (vR 27 r0), none, none, none] [] h Q := by
  unfold W_X33_at_58 at w
  refine jw_aload_n (pc' := 59) rfl rfl ?_
  obtain ⟨g_1, w⟩ := w
  refine jw_getR (pc' := 62) (F := 108) (t' := 98) rfl rfl rfl rfl rfl g_1 ?_
  obtain ⟨g_2, w⟩ := w
  refine jw_cR (st := []) (sa := [vR 98 (jfr h 108 r0)]) okX14_none rfl rfl rfl rfl rfl rfl (jstp_virtual (sa := []) (st := []) (k := 0) rfl rfl sX14_none okX14_none g_2 (one98.k g_2) rfl rfl) w (fun v_5 h_3 _ _ _ w => ?_)
  exact jw_areturn rfl rfl rfl rfl rfl w
def W_X33_at_266 (D : JD) (d : Nat) (Q : JO → JH → Prop) (q0 : Nat) (s1 : Int32) (h : JH) : Prop :=
  q0 ≠ 0 ∧ (cX14_truth D d q0 s1 h (pR D h 8 (fun v_4 h_2 => Q (.inl (some (vR 8 v_4))) h_2) (jth Q)))
theorem w_X33_at_266 {D : JD} {d : Nat} {Q : JO → JH → Prop} {q0 : Nat} {s1 : Int32} {h : JH} (w : W_X33_at_266 D d Q q0 s1 h) : JW D (d + 1) mX33_at 266 [none, none, none, none] [vI s1, vR 98 q0] h Q := by
  unfold W_X33_at_266 at w
  obtain ⟨g_1, w⟩ := w
  refine jw_cR (st := []) (sa := [vR 98 q0, vI s1]) okX14_truth rfl rfl rfl rfl rfl rfl (jstp_virtual (sa := [vI s1]) (st := []) (k := 0) rfl rfl sX14_truth okX14_truth g_1 (one98.k g_1) rfl rfl) w (fun v_4 h_2 _ _ _ w => ?_)
  exact jw_areturn rfl rfl rfl rfl rfl w
def W_X33_at_287 (D : JD) (d : Nat) (Q : JO → JH → Prop) (q0 : Nat) (s1 : Int32) (h : JH) : Prop :=
  q0 ≠ 0 ∧ (cX14_truth D d q0 s1 h (pR D h 8 (fun v_4 h_2 => Q (.inl (some (vR 8 v_4))) h_2) (jth Q)))
theorem w_X33_at_287 {D : JD} {d : Nat} {Q : JO → JH → Prop} {q0 : Nat} {s1 : Int32} {h : JH} (w : W_X33_at_287 D d Q q0 s1 h) : JW D (d + 1) mX33_at 287 [none, none, none, none] [vI s1, vR 98 q0] h Q := by
  unfold W_X33_at_287 at w
  obtain ⟨g_1, w⟩ := w
  refine jw_cR (st := []) (sa := [vR 98 q0, vI s1]) okX14_truth rfl rfl rfl rfl rfl rfl (jstp_virtual (sa := [vI s1]) (st := []) (k := 0) rfl rfl sX14_truth okX14_truth g_1 (one98.k g_1) rfl rfl) w (fun v_4 h_2 _ _ _ w => ?_)
  exact jw_areturn rfl rfl rfl rfl rfl w
def W_X33_at_308 (D : JD) (d : Nat) (Q : JO → JH → Prop) (q0 : Nat) (s1 : Int32) (h : JH) : Prop :=
  q0 ≠ 0 ∧ (cX14_truth D d q0 s1 h (pR D h 8 (fun v_4 h_2 => Q (.inl (some (vR 8 v_4))) h_2) (jth Q)))
theorem w_X33_at_308 {D : JD} {d : Nat} {Q : JO → JH → Prop} {q0 : Nat} {s1 : Int32} {h : JH} (w : W_X33_at_308 D d Q q0 s1 h) : JW D (d + 1) mX33_at 308 [none, none, none, none] [vI s1, vR 98 q0] h Q := by
  unfold W_X33_at_308 at w
  obtain ⟨g_1, w⟩ := w
  refine jw_cR (st := []) (sa := [vR 98 q0, vI s1]) okX14_truth rfl rfl rfl rfl rfl rfl (jstp_virtual (sa := [vI s1]) (st := []) (k := 0) rfl rfl sX14_truth okX14_truth g_1 (one98.k g_1) rfl rfl) w (fun v_4 h_2 _ _ _ w => ?_)
  exact jw_areturn rfl rfl rfl rfl rfl w
def W_X33_at_329 (D : JD) (d : Nat) (Q : JO → JH → Prop) (q0 : Nat) (s1 : Int32) (h : JH) : Prop :=
  q0 ≠ 0 ∧ (cX14_truth D d q0 s1 h (pR D h 8 (fun v_4 h_2 => Q (.inl (some (vR 8 v_4))) h_2) (jth Q)))
theorem w_X33_at_329 {D : JD} {d : Nat} {Q : JO → JH → Prop} {q0 : Nat} {s1 : Int32} {h : JH} (w : W_X33_at_329 D d Q q0 s1 h) : JW D (d + 1) mX33_at 329 [none, none, none, none] [vI s1, vR 98 q0] h Q := by
  unfold W_X33_at_329 at w
  obtain ⟨g_1, w⟩ := w
  refine jw_cR (st := []) (sa := [vR 98 q0, vI s1]) okX14_truth rfl rfl rfl rfl rfl rfl (jstp_virtual (sa := [vI s1]) (st := []) (k := 0) rfl rfl sX14_truth okX14_truth g_1 (one98.k g_1) rfl rfl) w (fun v_4 h_2 _ _ _ w => ?_)
  exact jw_areturn rfl rfl rfl rfl rfl w
def W_X33_at_350 (D : JD) (d : Nat) (Q : JO → JH → Prop) (q0 : Nat) (s1 : Int32) (h : JH) : Prop :=
  q0 ≠ 0 ∧ (cX14_truth D d q0 s1 h (pR D h 8 (fun v_4 h_2 => Q (.inl (some (vR 8 v_4))) h_2) (jth Q)))
theorem w_X33_at_350 {D : JD} {d : Nat} {Q : JO → JH → Prop} {q0 : Nat} {s1 : Int32} {h : JH} (w : W_X33_at_350 D d Q q0 s1 h) : JW D (d + 1) mX33_at 350 [none, none, none, none] [vI s1, vR 98 q0] h Q := by
  unfold W_X33_at_350 at w
  obtain ⟨g_1, w⟩ := w
  refine jw_cR (st := []) (sa := [vR 98 q0, vI s1]) okX14_truth rfl rfl rfl rfl rfl rfl (jstp_virtual (sa := [vI s1]) (st := []) (k := 0) rfl rfl sX14_truth okX14_truth g_1 (one98.k g_1) rfl rfl) w (fun v_4 h_2 _ _ _ w => ?_)
  exact jw_areturn rfl rfl rfl rfl rfl w
def W_X33_at_371 (D : JD) (d : Nat) (Q : JO → JH → Prop) (q0 : Nat) (s1 : Int32) (h : JH) : Prop :=
  q0 ≠ 0 ∧ (cX14_truth D d q0 s1 h (pR D h 8 (fun v_4 h_2 => Q (.inl (some (vR 8 v_4))) h_2) (jth Q)))
theorem w_X33_at_371 {D : JD} {d : Nat} {Q : JO → JH → Prop} {q0 : Nat} {s1 : Int32} {h : JH} (w : W_X33_at_371 D d Q q0 s1 h) : JW D (d + 1) mX33_at 371 [none, none, none, none] [vI s1, vR 98 q0] h Q := by
  unfold W_X33_at_371 at w
  obtain ⟨g_1, w⟩ := w
  refine jw_cR (st := []) (sa := [vR 98 q0, vI s1]) okX14_truth rfl rfl rfl rfl rfl rfl (jstp_virtual (sa := [vI s1]) (st := []) (k := 0) rfl rfl sX14_truth okX14_truth g_1 (one98.k g_1) rfl rfl) w (fun v_4 h_2 _ _ _ w => ?_)
  exact jw_areturn rfl rfl rfl rfl rfl w
def W_X33_at_43 (D : JD) (d : Nat) (Q : JO → JH → Prop) (r0 : Nat) (r2 : Nat) (q0 : Nat) (h : JH) : Prop :=
  r2 ≠ 0 ∧ (cX14_isEmpty D d r2 h (pI D h (fun v_4 h_2 => (¬ v_4 = 0 → W_X33_at_58 D d Q r0 h_2) ∧ (v_4 = 0 → q0 ≠ 0 ∧ (cX14_isEmpty D d q0 h_2 (pI D h_2 (fun v_9 h_7 => (v_9 = 0 → r0 ≠ 0 ∧ ((jfr h_7 123 r0) ≠ 0 ∧ (cJ11_ordinal D d (jfr h_7 123 r0) h_7 (pI D h_7 (fun v_15 h_13 => (v_15 = (0 : Int32) → cX14_number_2 D d r2 h_13 (pL D h_13 (fun v_18 h_17 => cX14_number_2 D d q0 h_17 (pL D h_17 (fun v_20 h_19 => (jfr h_13 108 r0) ≠ 0 ∧ (cX14_number D d (jfr h_13 108 r0) (v_18 + v_20) h_19 (pR D h_19 8 (fun v_24 h_22 => Q (.inl (some (vR 8 v_24))) h_22) (jth Q)))) (jth Q))) (jth Q))) ∧ (v_15 = (1 : Int32) → cX14_number_2 D d r2 h_13 (pL D h_13 (fun v_27 h_26 => cX14_number_2 D d q0 h_26 (pL D h_26 (fun v_29 h_28 => (jfr h_13 108 r0) ≠ 0 ∧ (cX14_number D d (jfr h_13 108 r0) (v_27 - v_29) h_28 (pR D h_28 8 (fun v_33 h_31 => Q (.inl (some (vR 8 v_33))) h_31) (jth Q)))) (jth Q))) (jth Q))) ∧ (v_15 = (2 : Int32) → cX14_number_2 D d r2 h_13 (pL D h_13 (fun v_36 h_35 => cX14_number_2 D d q0 h_35 (pL D h_35 (fun v_38 h_37 => cX33_times D d r0 v_36 v_38 h_37 (pR D h_37 8 (fun v_41 h_39 => Q (.inl (some (vR 8 v_41))) h_39) (jth Q))) (jth Q))) (jth Q))) ∧ (v_15 = (3 : Int32) → cX14_number_2 D d r2 h_13 (pL D h_13 (fun v_44 h_43 => cX33_divisor D d q0 h_43 (pL D h_43 (fun v_46 h_45 => ¬ v_46 = 0 ∧ ((jfr h_13 108 r0) ≠ 0 ∧ (cX14_number D d (jfr h_13 108 r0) (v_44 / v_46) h_45 (pR D h_45 8 (fun v_51 h_49 => Q (.inl (some (vR 8 v_51))) h_49) (jth Q))))) (jth Q))) (jth Q))) ∧ (v_15 = (4 : Int32) → cX14_number_2 D d r2 h_13 (pL D h_13 (fun v_54 h_53 => cX33_divisor D d q0 h_53 (pL D h_53 (fun v_56 h_55 => ¬ v_56 = 0 ∧ ((jfr h_13 108 r0) ≠ 0 ∧ (cX14_number D d (jfr h_13 108 r0) (v_54 - v_54 / v_56 * v_56) h_55 (pR D h_55 8 (fun v_61 h_59 => Q (.inl (some (vR 8 v_61))) h_59) (jth Q))))) (jth Q))) (jth Q))) ∧ (v_15 = (5 : Int32) → cX33_joined D d r0 r2 q0 h_13 (pR D h_13 8 (fun v_65 h_63 => Q (.inl (some (vR 8 v_65))) h_63) (jth Q))) ∧ (v_15 = (6 : Int32) → cX14_order D d r2 q0 h_13 (pI D h_13 (fun v_69 h_67 => (¬ v_69 = 0 → W_X33_at_266 D d Q (jfr h_13 108 r0) (0 : Int32) h_67) ∧ (v_69 = 0 → W_X33_at_266 D d Q (jfr h_13 108 r0) (1 : Int32) h_67)) (jth Q))) ∧ (v_15 = (7 : Int32) → cX14_order D d r2 q0 h_13 (pI D h_13 (fun v_74 h_72 => (v_74 = 0 → W_X33_at_287 D d Q (jfr h_13 108 r0) (0 : Int32) h_72) ∧ (¬ v_74 = 0 → W_X33_at_287 D d Q (jfr h_13 108 r0) (1 : Int32) h_72)) (jth Q))) ∧ (v_15 = (8 : Int32) → cX14_order D d r2 q0 h_13 (pI D h_13 (fun v_79 h_77 => (0 ≤ v_79 → W_X33_at_308 D d Q (jfr h_13 108 r0) (0 : Int32) h_77) ∧ (¬ 0 ≤ v_79 → W_X33_at_308 D d Q (jfr h_13 108 r0) (1 : Int32) h_77)) (jth Q))) ∧ (v_15 = (9 : Int32) → cX14_order D d r2 q0 h_13 (pI D h_13 (fun v_84 h_82 => (0 < v_84 → W_X33_at_329 D d Q (jfr h_13 108 r0) (0 : Int32) h_82) ∧ (¬ 0 < v_84 → W_X33_at_329 D d Q (jfr h_13 108 r0) (1 : Int32) h_82)) (jth Q))) ∧ (v_15 = (10 : Int32) → cX14_order D d r2 q0 h_13 (pI D h_13 (fun v_89 h_87 => (v_89 ≤ 0 → W_X33_at_350 D d Q (jfr h_13 108 r0) (0 : Int32) h_87) ∧ (¬ v_89 ≤ 0 → W_X33_at_350 D d Q (jfr h_13 108 r0) (1 : Int32) h_87)) (jth Q))) ∧ (v_15 = (14 : Int32) → cX33_matches D d r2 q0 h_13 (pI D h_13 (fun v_94 h_92 => (jfr h_13 108 r0) ≠ 0 ∧ (cX14_truth D d (jfr h_13 108 r0) v_94 h_92 (pR D h_92 8 (fun v_98 h_96 => Q (.inl (some (vR 8 v_98))) h_96) (jth Q)))) (jth Q))) ∧ (¬ v_15 = (0 : Int32) → ¬ v_15 = (1 : Int32) → ¬ v_15 = (2 : Int32) → ¬ v_15 = (3 : Int32) → ¬ v_15 = (4 : Int32) → ¬ v_15 = (5 : Int32) → ¬ v_15 = (6 : Int32) → ¬ v_15 = (7 : Int32) → ¬ v_15 = (8 : Int32) → ¬ v_15 = (9 : Int32) → ¬ v_15 = (10 : Int32) → ¬ v_15 = (14 : Int32) → cX14_order D d r2 q0 h_13 (pI D h_13 (fun v_101 h_99 => (v_101 < 0 → W_X33_at_371 D d Q (jfr h_13 108 r0) (0 : Int32) h_99) ∧ (¬ v_101 < 0 → W_X33_at_371 D d Q (jfr h_13 108 r0) (1 : Int32) h_99)) (jth Q)))) (jth Q))))) ∧ (¬ v_9 = 0 → W_X33_at_58 D d Q r0 h_7)) (jth Q))))) (jth Q)))
theorem w_X33_at_43 {D : JD} {d : Nat} {Q : JO → JH → Prop} {r0 : Nat} {r2 : Nat} {q0 : Nat} {h : JH} (w : W_X33_at_43 D d Q r0 r2 q0 h) : JW D (d + 1) mX33_at 43 [some (vR 27 r0), none, some (vR 8 r2), none] [vR 8 q0] h Q := by
  unfold W_X33_at_43 at w
  refine jw_astore_n (pc' := 44) (ls' := [some (vR 27 r0), none, some (vR 8 r2), some (vR 8 q0)]) rfl (by decide) rfl ?_
  refine jw_aload_n (pc' := 45) rfl rfl ?_
  obtain ⟨g_1, w⟩ := w
  refine jw_cI (st := []) (sa := [vR 8 r2]) okX14_isEmpty rfl rfl rfl rfl rfl rfl (jstp_virtual (sa := []) (st := []) (k := 0) rfl rfl sX14_isEmpty okX14_isEmpty g_1 (one8.k g_1) rfl rfl) w (fun v_4 h_2 _ _ w => ?_)
  refine jw_if_ne (tgt := 58) (pc' := 51) rfl rfl (fun c_5 => ?_) (fun c_5 => ?_)
  · replace w := w.1 c_5
    refine jw_gen (ls' := [some (vR 27 r0), none, none, none]) (st' := []) (And.intro (Or.inl rfl) (trivial)) (trivial) ?_
    exact w_X33_at_58 w
  · replace w := w.2 c_5
    refine jw_aload_n (pc' := 52) rfl rfl ?_
    obtain ⟨g_6, w⟩ := w
    refine jw_cI (st := []) (sa := [vR 8 q0]) okX14_isEmpty rfl rfl rfl rfl rfl rfl (jstp_virtual (sa := []) (st := []) (k := 0) rfl rfl sX14_isEmpty okX14_isEmpty g_6 (one8.k g_6) rfl rfl) w (fun v_9 h_7 _ _ w => ?_)
    refine jw_if_eq (tgt := 66) (pc' := 58) rfl rfl (fun c_10 => ?_) (fun c_10 => ?_)
    · replace w := w.1 c_10
      refine jw_aload_n (pc' := 67) rfl rfl ?_
      obtain ⟨g_11, w⟩ := w
      refine jw_getR (pc' := 70) (F := 123) (t' := 54) rfl rfl rfl rfl rfl g_11 ?_
      obtain ⟨g_12, w⟩ := w
      refine jw_cI (st := []) (sa := [vR 54 (jfr h_7 123 r0)]) okJ11_ordinal rfl rfl rfl rfl rfl rfl (jstp_up (sa := []) (st := []) rfl (lw_g (jtb_mem (c := 10) (i := 122) rfl) rfl) um111 okJ11_ordinal g_12 (one54.k g_12) rfl rfl) w (fun v_15 h_13 _ _ w => ?_)
      refine jw_tsw (cs := [((0 : Int32), 148), ((1 : Int32), 165), ((2 : Int32), 182), ((3 : Int32), 195), ((4 : Int32), 212), ((5 : Int32), 229), ((6 : Int32), 249), ((7 : Int32), 270), ((8 : Int32), 291), ((9 : Int32), 312), ((10 : Int32), 333), ((14 : Int32), 236)]) (dt := 354) rfl (by decide +kernel) ?_
      by_cases c_16 : v_15 = (0 : Int32)
      · rw [jsw_hit c_16]
        replace w := w.1 c_16
        refine jw_aload_n (pc' := 149) rfl rfl ?_
        refine jw_getR (pc' := 152) (F := 108) (t' := 98) rfl rfl rfl rfl rfl g_11 ?_
        refine jw_aload_n (pc' := 153) rfl rfl ?_
        refine jw_cL (st := [vR 98 (jfr h_13 108 r0)]) (sa := [vR 8 r2]) okX14_number_2 rfl rfl rfl rfl rfl rfl (jstp_virtual (sa := []) (st := [vR 98 (jfr h_13 108 r0)]) (k := 0) rfl rfl sX14_number_2 okX14_number_2 g_1 (one8.k g_1) rfl rfl) w (fun v_18 h_17 _ _ w => ?_)
        refine jw_aload_n (pc' := 157) rfl rfl ?_
        refine jw_cL (st := [vL v_18, vR 98 (jfr h_13 108 r0)]) (sa := [vR 8 q0]) okX14_number_2 rfl rfl rfl rfl rfl rfl (jstp_virtual (sa := []) (st := [vL v_18, vR 98 (jfr h_13 108 r0)]) (k := 0) rfl rfl sX14_number_2 okX14_number_2 g_6 (one8.k g_6) rfl rfl) w (fun v_20 h_19 _ _ w => ?_)
        refine jw_ladd (pc' := 161) rfl ?_
        obtain ⟨g_21, w⟩ := w
        refine jw_cR (st := []) (sa := [vR 98 (jfr h_13 108 r0), vL (v_18 + v_20)]) okX14_number rfl rfl rfl rfl rfl rfl (jstp_virtual (sa := [vL (v_18 + v_20)]) (st := []) (k := 0) rfl rfl sX14_number okX14_number g_21 (one98.k g_21) rfl rfl) w (fun v_24 h_22 _ _ _ w => ?_)
        exact jw_areturn rfl rfl rfl rfl rfl w
      · rw [jsw_miss c_16]
        replace w := w.2
        by_cases c_25 : v_15 = (1 : Int32)
        · rw [jsw_hit c_25]
          replace w := w.1 c_25
          refine jw_aload_n (pc' := 166) rfl rfl ?_
          refine jw_getR (pc' := 169) (F := 108) (t' := 98) rfl rfl rfl rfl rfl g_11 ?_
          refine jw_aload_n (pc' := 170) rfl rfl ?_
          refine jw_cL (st := [vR 98 (jfr h_13 108 r0)]) (sa := [vR 8 r2]) okX14_number_2 rfl rfl rfl rfl rfl rfl (jstp_virtual (sa := []) (st := [vR 98 (jfr h_13 108 r0)]) (k := 0) rfl rfl sX14_number_2 okX14_number_2 g_1 (one8.k g_1) rfl rfl) w (fun v_27 h_26 _ _ w => ?_)
          refine jw_aload_n (pc' := 174) rfl rfl ?_
          refine jw_cL (st := [vL v_27, vR 98 (jfr h_13 108 r0)]) (sa := [vR 8 q0]) okX14_number_2 rfl rfl rfl rfl rfl rfl (jstp_virtual (sa := []) (st := [vL v_27, vR 98 (jfr h_13 108 r0)]) (k := 0) rfl rfl sX14_number_2 okX14_number_2 g_6 (one8.k g_6) rfl rfl) w (fun v_29 h_28 _ _ w => ?_)
          refine jw_lsub (pc' := 178) rfl ?_
          obtain ⟨g_30, w⟩ := w
          refine jw_cR (st := []) (sa := [vR 98 (jfr h_13 108 r0), vL (v_27 - v_29)]) okX14_number rfl rfl rfl rfl rfl rfl (jstp_virtual (sa := [vL (v_27 - v_29)]) (st := []) (k := 0) rfl rfl sX14_number okX14_number g_30 (one98.k g_30) rfl rfl) w (fun v_33 h_31 _ _ _ w => ?_)
          exact jw_areturn rfl rfl rfl rfl rfl w
        · rw [jsw_miss c_25]
          replace w := w.2
          by_cases c_34 : v_15 = (2 : Int32)
          · rw [jsw_hit c_34]
            replace w := w.1 c_34
            refine jw_aload_n (pc' := 183) rfl rfl ?_
            refine jw_aload_n (pc' := 184) rfl rfl ?_
            refine jw_cL (st := [vR 27 r0]) (sa := [vR 8 r2]) okX14_number_2 rfl rfl rfl rfl rfl rfl (jstp_virtual (sa := []) (st := [vR 27 r0]) (k := 0) rfl rfl sX14_number_2 okX14_number_2 g_1 (one8.k g_1) rfl rfl) w (fun v_36 h_35 _ _ w => ?_)
            refine jw_aload_n (pc' := 188) rfl rfl ?_
            refine jw_cL (st := [vL v_36, vR 27 r0]) (sa := [vR 8 q0]) okX14_number_2 rfl rfl rfl rfl rfl rfl (jstp_virtual (sa := []) (st := [vL v_36, vR 27 r0]) (k := 0) rfl rfl sX14_number_2 okX14_number_2 g_6 (one8.k g_6) rfl rfl) w (fun v_38 h_37 _ _ w => ?_)
            refine jw_cR (st := []) (sa := [vR 27 r0, vL v_36, vL v_38]) okX33_times rfl rfl rfl rfl rfl rfl (jstp_virtual (sa := [vL v_36, vL v_38]) (st := []) (k := 0) rfl rfl sX33_times okX33_times g_11 (one27.k g_11) rfl rfl) w (fun v_41 h_39 _ _ _ w => ?_)
            exact jw_areturn rfl rfl rfl rfl rfl w
          · rw [jsw_miss c_34]
            replace w := w.2
            by_cases c_42 : v_15 = (3 : Int32)
            · rw [jsw_hit c_42]
              replace w := w.1 c_42
              refine jw_aload_n (pc' := 196) rfl rfl ?_
              refine jw_getR (pc' := 199) (F := 108) (t' := 98) rfl rfl rfl rfl rfl g_11 ?_
              refine jw_aload_n (pc' := 200) rfl rfl ?_
              refine jw_cL (st := [vR 98 (jfr h_13 108 r0)]) (sa := [vR 8 r2]) okX14_number_2 rfl rfl rfl rfl rfl rfl (jstp_virtual (sa := []) (st := [vR 98 (jfr h_13 108 r0)]) (k := 0) rfl rfl sX14_number_2 okX14_number_2 g_1 (one8.k g_1) rfl rfl) w (fun v_44 h_43 _ _ w => ?_)
              refine jw_aload_n (pc' := 204) rfl rfl ?_
              refine jw_cL (st := [vL v_44, vR 98 (jfr h_13 108 r0)]) (sa := [vR 8 q0]) okX33_divisor rfl rfl rfl rfl rfl rfl (jstp_static (sa := [vR 8 q0]) (st := [vL v_44, vR 98 (jfr h_13 108 r0)]) rfl rfl sX33_divisor okX33_divisor rfl rfl) w (fun v_46 h_45 _ _ w => ?_)
              obtain ⟨g_47, w⟩ := w
              refine jw_ldiv (pc' := 208) rfl g_47 ?_
              obtain ⟨g_48, w⟩ := w
              refine jw_cR (st := []) (sa := [vR 98 (jfr h_13 108 r0), vL (v_44 / v_46)]) okX14_number rfl rfl rfl rfl rfl rfl (jstp_virtual (sa := [vL (v_44 / v_46)]) (st := []) (k := 0) rfl rfl sX14_number okX14_number g_48 (one98.k g_48) rfl rfl) w (fun v_51 h_49 _ _ _ w => ?_)
              exact jw_areturn rfl rfl rfl rfl rfl w
            · rw [jsw_miss c_42]
              replace w := w.2
              by_cases c_52 : v_15 = (4 : Int32)
              · rw [jsw_hit c_52]
                replace w := w.1 c_52
                refine jw_aload_n (pc' := 213) rfl rfl ?_
                refine jw_getR (pc' := 216) (F := 108) (t' := 98) rfl rfl rfl rfl rfl g_11 ?_
                refine jw_aload_n (pc' := 217) rfl rfl ?_
                refine jw_cL (st := [vR 98 (jfr h_13 108 r0)]) (sa := [vR 8 r2]) okX14_number_2 rfl rfl rfl rfl rfl rfl (jstp_virtual (sa := []) (st := [vR 98 (jfr h_13 108 r0)]) (k := 0) rfl rfl sX14_number_2 okX14_number_2 g_1 (one8.k g_1) rfl rfl) w (fun v_54 h_53 _ _ w => ?_)
                refine jw_aload_n (pc' := 221) rfl rfl ?_
                refine jw_cL (st := [vL v_54, vR 98 (jfr h_13 108 r0)]) (sa := [vR 8 q0]) okX33_divisor rfl rfl rfl rfl rfl rfl (jstp_static (sa := [vR 8 q0]) (st := [vL v_54, vR 98 (jfr h_13 108 r0)]) rfl rfl sX33_divisor okX33_divisor rfl rfl) w (fun v_56 h_55 _ _ w => ?_)
                obtain ⟨g_57, w⟩ := w
                refine jw_lrem (pc' := 225) rfl g_57 ?_
                obtain ⟨g_58, w⟩ := w
                refine jw_cR (st := []) (sa := [vR 98 (jfr h_13 108 r0), vL (v_54 - v_54 / v_56 * v_56)]) okX14_number rfl rfl rfl rfl rfl rfl (jstp_virtual (sa := [vL (v_54 - v_54 / v_56 * v_56)]) (st := []) (k := 0) rfl rfl sX14_number okX14_number g_58 (one98.k g_58) rfl rfl) w (fun v_61 h_59 _ _ _ w => ?_)
                exact jw_areturn rfl rfl rfl rfl rfl w
              · rw [jsw_miss c_52]
                replace w := w.2
                by_cases c_62 : v_15 = (5 : Int32)
                · rw [jsw_hit c_62]
                  replace w := w.1 c_62
                  refine jw_aload_n (pc' := 230) rfl rfl ?_
                  refine jw_aload_n (pc' := 231) rfl rfl ?_
                  refine jw_aload_n (pc' := 232) rfl rfl ?_
                  refine jw_cR (st := []) (sa := [vR 27 r0, vR 8 r2, vR 8 q0]) okX33_joined rfl rfl rfl rfl rfl rfl (jstp_virtual (sa := [vR 8 r2, vR 8 q0]) (st := []) (k := 0) rfl rfl sX33_joined okX33_joined g_11 (one27.k g_11) rfl rfl) w (fun v_65 h_63 _ _ _ w => ?_)
                  exact jw_areturn rfl rfl rfl rfl rfl w
                · rw [jsw_miss c_62]
                  replace w := w.2
                  by_cases c_66 : v_15 = (6 : Int32)
                  · rw [jsw_hit c_66]
                    replace w := w.1 c_66
                    refine jw_aload_n (pc' := 250) rfl rfl ?_
                    refine jw_getR (pc' := 253) (F := 108) (t' := 98) rfl rfl rfl rfl rfl g_11 ?_
                    refine jw_aload_n (pc' := 254) rfl rfl ?_
                    refine jw_aload_n (pc' := 255) rfl rfl ?_
                    refine jw_cI (st := [vR 98 (jfr h_13 108 r0)]) (sa := [vR 8 r2, vR 8 q0]) okX14_order rfl rfl rfl rfl rfl rfl (jstp_virtual (sa := [vR 8 q0]) (st := [vR 98 (jfr h_13 108 r0)]) (k := 0) rfl rfl sX14_order okX14_order g_1 (one8.k g_1) rfl rfl) w (fun v_69 h_67 _ _ w => ?_)
                    refine jw_if_ne (tgt := 265) (pc' := 261) rfl rfl (fun c_70 => ?_) (fun c_70 => ?_)
                    · replace w := w.1 c_70
                      refine jw_iconst (pc' := 266) (x := (0 : Int32)) rfl rfl ?_
                      refine jw_gen (ls' := [none, none, none, none]) (st' := [vI (0 : Int32), vR 98 (jfr h_13 108 r0)]) (trivial) (And.intro (Or.inl rfl) (And.intro (Or.inl rfl) (trivial))) ?_
                      exact w_X33_at_266 w
                    · replace w := w.2 c_70
                      refine jw_iconst (pc' := 262) (x := (1 : Int32)) rfl rfl ?_
                      refine jw_goto (pc' := 266) rfl rfl ?_
                      refine jw_gen (ls' := [none, none, none, none]) (st' := [vI (1 : Int32), vR 98 (jfr h_13 108 r0)]) (trivial) (And.intro (Or.inl rfl) (And.intro (Or.inl rfl) (trivial))) ?_
                      exact w_X33_at_266 w
                  · rw [jsw_miss c_66]
                    replace w := w.2
                    by_cases c_71 : v_15 = (7 : Int32)
                    · rw [jsw_hit c_71]
                      replace w := w.1 c_71
                      refine jw_aload_n (pc' := 271) rfl rfl ?_
                      refine jw_getR (pc' := 274) (F := 108) (t' := 98) rfl rfl rfl rfl rfl g_11 ?_
                      refine jw_aload_n (pc' := 275) rfl rfl ?_
                      refine jw_aload_n (pc' := 276) rfl rfl ?_
                      refine jw_cI (st := [vR 98 (jfr h_13 108 r0)]) (sa := [vR 8 r2, vR 8 q0]) okX14_order rfl rfl rfl rfl rfl rfl (jstp_virtual (sa := [vR 8 q0]) (st := [vR 98 (jfr h_13 108 r0)]) (k := 0) rfl rfl sX14_order okX14_order g_1 (one8.k g_1) rfl rfl) w (fun v_74 h_72 _ _ w => ?_)
                      refine jw_if_eq (tgt := 286) (pc' := 282) rfl rfl (fun c_75 => ?_) (fun c_75 => ?_)
                      · replace w := w.1 c_75
                        refine jw_iconst (pc' := 287) (x := (0 : Int32)) rfl rfl ?_
                        refine jw_gen (ls' := [none, none, none, none]) (st' := [vI (0 : Int32), vR 98 (jfr h_13 108 r0)]) (trivial) (And.intro (Or.inl rfl) (And.intro (Or.inl rfl) (trivial))) ?_
                        exact w_X33_at_287 w
                      · replace w := w.2 c_75
                        refine jw_iconst (pc' := 283) (x := (1 : Int32)) rfl rfl ?_
                        refine jw_goto (pc' := 287) rfl rfl ?_
                        refine jw_gen (ls' := [none, none, none, none]) (st' := [vI (1 : Int32), vR 98 (jfr h_13 108 r0)]) (trivial) (And.intro (Or.inl rfl) (And.intro (Or.inl rfl) (trivial))) ?_
                        exact w_X33_at_287 w
                    · rw [jsw_miss c_71]
                      replace w := w.2
                      by_cases c_76 : v_15 = (8 : Int32)
                      · rw [jsw_hit c_76]
                        replace w := w.1 c_76
                        refine jw_aload_n (pc' := 292) rfl rfl ?_
                        refine jw_getR (pc' := 295) (F := 108) (t' := 98) rfl rfl rfl rfl rfl g_11 ?_
                        refine jw_aload_n (pc' := 296) rfl rfl ?_
                        refine jw_aload_n (pc' := 297) rfl rfl ?_
                        refine jw_cI (st := [vR 98 (jfr h_13 108 r0)]) (sa := [vR 8 r2, vR 8 q0]) okX14_order rfl rfl rfl rfl rfl rfl (jstp_virtual (sa := [vR 8 q0]) (st := [vR 98 (jfr h_13 108 r0)]) (k := 0) rfl rfl sX14_order okX14_order g_1 (one8.k g_1) rfl rfl) w (fun v_79 h_77 _ _ w => ?_)
                        refine jw_if_ge (tgt := 307) (pc' := 303) rfl rfl (fun c_80 => ?_) (fun c_80 => ?_)
                        · replace w := w.1 c_80
                          refine jw_iconst (pc' := 308) (x := (0 : Int32)) rfl rfl ?_
                          refine jw_gen (ls' := [none, none, none, none]) (st' := [vI (0 : Int32), vR 98 (jfr h_13 108 r0)]) (trivial) (And.intro (Or.inl rfl) (And.intro (Or.inl rfl) (trivial))) ?_
                          exact w_X33_at_308 w
                        · replace w := w.2 c_80
                          refine jw_iconst (pc' := 304) (x := (1 : Int32)) rfl rfl ?_
                          refine jw_goto (pc' := 308) rfl rfl ?_
                          refine jw_gen (ls' := [none, none, none, none]) (st' := [vI (1 : Int32), vR 98 (jfr h_13 108 r0)]) (trivial) (And.intro (Or.inl rfl) (And.intro (Or.inl rfl) (trivial))) ?_
                          exact w_X33_at_308 w
                      · rw [jsw_miss c_76]
                        replace w := w.2
                        by_cases c_81 : v_15 = (9 : Int32)
                        · rw [jsw_hit c_81]
                          replace w := w.1 c_81
                          refine jw_aload_n (pc' := 313) rfl rfl ?_
                          refine jw_getR (pc' := 316) (F := 108) (t' := 98) rfl rfl rfl rfl rfl g_11 ?_
                          refine jw_aload_n (pc' := 317) rfl rfl ?_
                          refine jw_aload_n (pc' := 318) rfl rfl ?_
                          refine jw_cI (st := [vR 98 (jfr h_13 108 r0)]) (sa := [vR 8 r2, vR 8 q0]) okX14_order rfl rfl rfl rfl rfl rfl (jstp_virtual (sa := [vR 8 q0]) (st := [vR 98 (jfr h_13 108 r0)]) (k := 0) rfl rfl sX14_order okX14_order g_1 (one8.k g_1) rfl rfl) w (fun v_84 h_82 _ _ w => ?_)
                          refine jw_if_gt (tgt := 328) (pc' := 324) rfl rfl (fun c_85 => ?_) (fun c_85 => ?_)
                          · replace w := w.1 c_85
                            refine jw_iconst (pc' := 329) (x := (0 : Int32)) rfl rfl ?_
                            refine jw_gen (ls' := [none, none, none, none]) (st' := [vI (0 : Int32), vR 98 (jfr h_13 108 r0)]) (trivial) (And.intro (Or.inl rfl) (And.intro (Or.inl rfl) (trivial))) ?_
                            exact w_X33_at_329 w
                          · replace w := w.2 c_85
                            refine jw_iconst (pc' := 325) (x := (1 : Int32)) rfl rfl ?_
                            refine jw_goto (pc' := 329) rfl rfl ?_
                            refine jw_gen (ls' := [none, none, none, none]) (st' := [vI (1 : Int32), vR 98 (jfr h_13 108 r0)]) (trivial) (And.intro (Or.inl rfl) (And.intro (Or.inl rfl) (trivial))) ?_
                            exact w_X33_at_329 w
                        · rw [jsw_miss c_81]
                          replace w := w.2
                          by_cases c_86 : v_15 = (10 : Int32)
                          · rw [jsw_hit c_86]
                            replace w := w.1 c_86
                            refine jw_aload_n (pc' := 334) rfl rfl ?_
                            refine jw_getR (pc' := 337) (F := 108) (t' := 98) rfl rfl rfl rfl rfl g_11 ?_
                            refine jw_aload_n (pc' := 338) rfl rfl ?_
                            refine jw_aload_n (pc' := 339) rfl rfl ?_
                            refine jw_cI (st := [vR 98 (jfr h_13 108 r0)]) (sa := [vR 8 r2, vR 8 q0]) okX14_order rfl rfl rfl rfl rfl rfl (jstp_virtual (sa := [vR 8 q0]) (st := [vR 98 (jfr h_13 108 r0)]) (k := 0) rfl rfl sX14_order okX14_order g_1 (one8.k g_1) rfl rfl) w (fun v_89 h_87 _ _ w => ?_)
                            refine jw_if_le (tgt := 349) (pc' := 345) rfl rfl (fun c_90 => ?_) (fun c_90 => ?_)
                            · replace w := w.1 c_90
                              refine jw_iconst (pc' := 350) (x := (0 : Int32)) rfl rfl ?_
                              refine jw_gen (ls' := [none, none, none, none]) (st' := [vI (0 : Int32), vR 98 (jfr h_13 108 r0)]) (trivial) (And.intro (Or.inl rfl) (And.intro (Or.inl rfl) (trivial))) ?_
                              exact w_X33_at_350 w
                            · replace w := w.2 c_90
                              refine jw_iconst (pc' := 346) (x := (1 : Int32)) rfl rfl ?_
                              refine jw_goto (pc' := 350) rfl rfl ?_
                              refine jw_gen (ls' := [none, none, none, none]) (st' := [vI (1 : Int32), vR 98 (jfr h_13 108 r0)]) (trivial) (And.intro (Or.inl rfl) (And.intro (Or.inl rfl) (trivial))) ?_
                              exact w_X33_at_350 w
                          · rw [jsw_miss c_86]
                            replace w := w.2
                            by_cases c_91 : v_15 = (14 : Int32)
                            · rw [jsw_hit c_91]
                              replace w := w.1 c_91
                              refine jw_aload_n (pc' := 237) rfl rfl ?_
                              refine jw_getR (pc' := 240) (F := 108) (t' := 98) rfl rfl rfl rfl rfl g_11 ?_
                              refine jw_aload_n (pc' := 241) rfl rfl ?_
                              refine jw_aload_n (pc' := 242) rfl rfl ?_
                              refine jw_cI (st := [vR 98 (jfr h_13 108 r0)]) (sa := [vR 8 r2, vR 8 q0]) okX33_matches rfl rfl rfl rfl rfl rfl (jstp_static (sa := [vR 8 r2, vR 8 q0]) (st := [vR 98 (jfr h_13 108 r0)]) rfl rfl sX33_matches okX33_matches rfl rfl) w (fun v_94 h_92 _ _ w => ?_)
                              obtain ⟨g_95, w⟩ := w
                              refine jw_cR (st := []) (sa := [vR 98 (jfr h_13 108 r0), vI v_94]) okX14_truth rfl rfl rfl rfl rfl rfl (jstp_virtual (sa := [vI v_94]) (st := []) (k := 0) rfl rfl sX14_truth okX14_truth g_95 (one98.k g_95) rfl rfl) w (fun v_98 h_96 _ _ _ w => ?_)
                              exact jw_areturn rfl rfl rfl rfl rfl w
                            · rw [jsw_miss c_91]
                              replace w := w.2
                              rw [jsw_nil]
                              replace w := w c_16 c_25 c_34 c_42 c_52 c_62 c_66 c_71 c_76 c_81 c_86 c_91
                              refine jw_aload_n (pc' := 355) rfl rfl ?_
                              refine jw_getR (pc' := 358) (F := 108) (t' := 98) rfl rfl rfl rfl rfl g_11 ?_
                              refine jw_aload_n (pc' := 359) rfl rfl ?_
                              refine jw_aload_n (pc' := 360) rfl rfl ?_
                              refine jw_cI (st := [vR 98 (jfr h_13 108 r0)]) (sa := [vR 8 r2, vR 8 q0]) okX14_order rfl rfl rfl rfl rfl rfl (jstp_virtual (sa := [vR 8 q0]) (st := [vR 98 (jfr h_13 108 r0)]) (k := 0) rfl rfl sX14_order okX14_order g_1 (one8.k g_1) rfl rfl) w (fun v_101 h_99 _ _ w => ?_)
                              refine jw_if_lt (tgt := 370) (pc' := 366) rfl rfl (fun c_102 => ?_) (fun c_102 => ?_)
                              · replace w := w.1 c_102
                                refine jw_iconst (pc' := 371) (x := (0 : Int32)) rfl rfl ?_
                                refine jw_gen (ls' := [none, none, none, none]) (st' := [vI (0 : Int32), vR 98 (jfr h_13 108 r0)]) (trivial) (And.intro (Or.inl rfl) (And.intro (Or.inl rfl) (trivial))) ?_
                                exact w_X33_at_371 w
                              · replace w := w.2 c_102
                                refine jw_iconst (pc' := 367) (x := (1 : Int32)) rfl rfl ?_
                                refine jw_goto (pc' := 371) rfl rfl ?_
                                refine jw_gen (ls' := [none, none, none, none]) (st' := [vI (1 : Int32), vR 98 (jfr h_13 108 r0)]) (trivial) (And.intro (Or.inl rfl) (And.intro (Or.inl rfl) (trivial))) ?_
                                exact w_X33_at_371 w
    · replace w := w.2 c_10
      refine jw_gen (ls' := [some (vR 27 r0), none, none, none]) (st' := []) (And.intro (Or.inl rfl) (trivial)) (trivial) ?_
      exact w_X33_at_58 w
def W_X33_at_34 (D : JD) (d : Nat) (Q : JO → JH → Prop) (r0 : Nat) (r1 : Nat) (q0 : Nat) (h : JH) : Prop :=
  r0 ≠ 0 ∧ ((jfr h 125 r0) ≠ 0 ∧ (v55_at D d (jfr h 125 r0) r1 h (pR D h 8 (fun v_5 h_3 => W_X33_at_43 D d Q r0 q0 v_5 h_3) (jth Q))))
theorem w_X33_at_34 {D : JD} {d : Nat} {Q : JO → JH → Prop} {r0 : Nat} {r1 : Nat} {q0 : Nat} {h : JH} (w : W_X33_at_34 D d Q r0 r1 q0 h) : JW D (d + 1) mX33_at 34 [some (vR 27 r0), some (vR 6 r1), none, none] [vR 8 q0] h Q := by
  unfold W_X33_at_34 at w
  refine jw_astore_n (pc' := 35) (ls' := [some (vR 27 r0), some (vR 6 r1), some (vR 8 q0), none]) rfl (by decide) rfl ?_
  refine jw_aload_n (pc' := 36) rfl rfl ?_
  obtain ⟨g_1, w⟩ := w
  refine jw_getR (pc' := 39) (F := 125) (t' := 55) rfl rfl rfl rfl rfl g_1 ?_
  refine jw_aload_n (pc' := 40) rfl rfl ?_
  obtain ⟨g_2, w⟩ := w
  refine JW.inv (fun hI => JW.oks (fun ho => ?_))
  have hkd := und55.k hI (ho (vR 55 (jfr h 125 r0)) (by simp)) g_2
  simp only [List.mem_cons, List.not_mem_nil, or_false] at hkd
  clear ho hI
  rcases hkd with e_6 | e_6 | e_6 | e_6 | e_6 | e_6 | e_6 | e_6 | e_6 | e_6
  · refine jw_gen (ls' := _) (st' := [vR 6 r1, vR 20 (jfr h 125 r0)]) (jgl_rf _ _) (And.intro (Or.inl rfl) (And.intro (Or.inr ⟨_, _, _, rfl, rfl, Or.inr (Or.inr (by rw [e_6]; rfl))⟩) (jgs_rf _ _))) ?_
    refine jw_cR (st := []) (sa := [vR 20 (jfr h 125 r0), vR 6 r1]) okX25_at rfl rfl rfl rfl rfl rfl (jstp_up (sa := [vR 6 r1]) (st := []) rfl (lw_g (jtb_mem (c := 12) (i := 49) rfl) rfl) um28 okX25_at g_2 (fun _ _ => by rw [e_6]; exact ⟨rfl, rfl⟩) rfl rfl) (w.1 e_6) (fun v_5 h_3 _ _ _ w => ?_)
    refine jw_gen (ls' := [some (vR 27 r0), none, some (vR 8 q0), none]) (st' := [vR 8 v_5]) (And.intro (Or.inl rfl) (And.intro (Or.inl rfl) (trivial))) (And.intro (Or.inl rfl) (trivial)) ?_
    exact w_X33_at_43 w
  · refine jw_gen (ls' := _) (st' := [vR 6 r1, vR 21 (jfr h 125 r0)]) (jgl_rf _ _) (And.intro (Or.inl rfl) (And.intro (Or.inr ⟨_, _, _, rfl, rfl, Or.inr (Or.inr (by rw [e_6]; rfl))⟩) (jgs_rf _ _))) ?_
    refine jw_cR (st := []) (sa := [vR 21 (jfr h 125 r0), vR 6 r1]) okX27_at rfl rfl rfl rfl rfl rfl (jstp_up (sa := [vR 6 r1]) (st := []) rfl (lw_g (jtb_mem (c := 12) (i := 49) rfl) rfl) um29 okX27_at g_2 (fun _ _ => by rw [e_6]; exact ⟨rfl, rfl⟩) rfl rfl) (w.2.1 e_6) (fun v_5 h_3 _ _ _ w => ?_)
    refine jw_gen (ls' := [some (vR 27 r0), none, some (vR 8 q0), none]) (st' := [vR 8 v_5]) (And.intro (Or.inl rfl) (And.intro (Or.inl rfl) (trivial))) (And.intro (Or.inl rfl) (trivial)) ?_
    exact w_X33_at_43 w
  · refine jw_gen (ls' := _) (st' := [vR 6 r1, vR 22 (jfr h 125 r0)]) (jgl_rf _ _) (And.intro (Or.inl rfl) (And.intro (Or.inr ⟨_, _, _, rfl, rfl, Or.inr (Or.inr (by rw [e_6]; rfl))⟩) (jgs_rf _ _))) ?_
    refine jw_cR (st := []) (sa := [vR 22 (jfr h 125 r0), vR 6 r1]) okX28_at rfl rfl rfl rfl rfl rfl (jstp_up (sa := [vR 6 r1]) (st := []) rfl (lw_g (jtb_mem (c := 12) (i := 49) rfl) rfl) um30 okX28_at g_2 (fun _ _ => by rw [e_6]; exact ⟨rfl, rfl⟩) rfl rfl) (w.2.2.1 e_6) (fun v_5 h_3 _ _ _ w => ?_)
    refine jw_gen (ls' := [some (vR 27 r0), none, some (vR 8 q0), none]) (st' := [vR 8 v_5]) (And.intro (Or.inl rfl) (And.intro (Or.inl rfl) (trivial))) (And.intro (Or.inl rfl) (trivial)) ?_
    exact w_X33_at_43 w
  · refine jw_gen (ls' := _) (st' := [vR 6 r1, vR 23 (jfr h 125 r0)]) (jgl_rf _ _) (And.intro (Or.inl rfl) (And.intro (Or.inr ⟨_, _, _, rfl, rfl, Or.inr (Or.inr (by rw [e_6]; rfl))⟩) (jgs_rf _ _))) ?_
    refine jw_cR (st := []) (sa := [vR 23 (jfr h 125 r0), vR 6 r1]) okX29_at rfl rfl rfl rfl rfl rfl (jstp_up (sa := [vR 6 r1]) (st := []) rfl (lw_g (jtb_mem (c := 12) (i := 49) rfl) rfl) um31 okX29_at g_2 (fun _ _ => by rw [e_6]; exact ⟨rfl, rfl⟩) rfl rfl) (w.2.2.2.1 e_6) (fun v_5 h_3 _ _ _ w => ?_)
    refine jw_gen (ls' := [some (vR 27 r0), none, some (vR 8 q0), none]) (st' := [vR 8 v_5]) (And.intro (Or.inl rfl) (And.intro (Or.inl rfl) (trivial))) (And.intro (Or.inl rfl) (trivial)) ?_
    exact w_X33_at_43 w
  · refine jw_gen (ls' := _) (st' := [vR 6 r1, vR 24 (jfr h 125 r0)]) (jgl_rf _ _) (And.intro (Or.inl rfl) (And.intro (Or.inr ⟨_, _, _, rfl, rfl, Or.inr (Or.inr (by rw [e_6]; rfl))⟩) (jgs_rf _ _))) ?_
    refine jw_cR (st := []) (sa := [vR 24 (jfr h 125 r0), vR 6 r1]) okX30_at rfl rfl rfl rfl rfl rfl (jstp_up (sa := [vR 6 r1]) (st := []) rfl (lw_g (jtb_mem (c := 12) (i := 49) rfl) rfl) um32 okX30_at g_2 (fun _ _ => by rw [e_6]; exact ⟨rfl, rfl⟩) rfl rfl) (w.2.2.2.2.1 e_6) (fun v_5 h_3 _ _ _ w => ?_)
    refine jw_gen (ls' := [some (vR 27 r0), none, some (vR 8 q0), none]) (st' := [vR 8 v_5]) (And.intro (Or.inl rfl) (And.intro (Or.inl rfl) (trivial))) (And.intro (Or.inl rfl) (trivial)) ?_
    exact w_X33_at_43 w
  · refine jw_gen (ls' := _) (st' := [vR 6 r1, vR 25 (jfr h 125 r0)]) (jgl_rf _ _) (And.intro (Or.inl rfl) (And.intro (Or.inr ⟨_, _, _, rfl, rfl, Or.inr (Or.inr (by rw [e_6]; rfl))⟩) (jgs_rf _ _))) ?_
    refine jw_cR (st := []) (sa := [vR 25 (jfr h 125 r0), vR 6 r1]) okX31_at rfl rfl rfl rfl rfl rfl (jstp_up (sa := [vR 6 r1]) (st := []) rfl (lw_g (jtb_mem (c := 12) (i := 49) rfl) rfl) um33 okX31_at g_2 (fun _ _ => by rw [e_6]; exact ⟨rfl, rfl⟩) rfl rfl) (w.2.2.2.2.2.1 e_6) (fun v_5 h_3 _ _ _ w => ?_)
    refine jw_gen (ls' := [some (vR 27 r0), none, some (vR 8 q0), none]) (st' := [vR 8 v_5]) (And.intro (Or.inl rfl) (And.intro (Or.inl rfl) (trivial))) (And.intro (Or.inl rfl) (trivial)) ?_
    exact w_X33_at_43 w
  · refine jw_gen (ls' := _) (st' := [vR 6 r1, vR 26 (jfr h 125 r0)]) (jgl_rf _ _) (And.intro (Or.inl rfl) (And.intro (Or.inr ⟨_, _, _, rfl, rfl, Or.inr (Or.inr (by rw [e_6]; rfl))⟩) (jgs_rf _ _))) ?_
    refine jw_cR (st := []) (sa := [vR 26 (jfr h 125 r0), vR 6 r1]) okX32_at rfl rfl rfl rfl rfl rfl (jstp_up (sa := [vR 6 r1]) (st := []) rfl (lw_g (jtb_mem (c := 12) (i := 49) rfl) rfl) um34 okX32_at g_2 (fun _ _ => by rw [e_6]; exact ⟨rfl, rfl⟩) rfl rfl) (w.2.2.2.2.2.2.1 e_6) (fun v_5 h_3 _ _ _ w => ?_)
    refine jw_gen (ls' := [some (vR 27 r0), none, some (vR 8 q0), none]) (st' := [vR 8 v_5]) (And.intro (Or.inl rfl) (And.intro (Or.inl rfl) (trivial))) (And.intro (Or.inl rfl) (trivial)) ?_
    exact w_X33_at_43 w
  · refine jw_gen (ls' := _) (st' := [vR 6 r1, vR 27 (jfr h 125 r0)]) (jgl_rf _ _) (And.intro (Or.inl rfl) (And.intro (Or.inr ⟨_, _, _, rfl, rfl, Or.inr (Or.inr (by rw [e_6]; rfl))⟩) (jgs_rf _ _))) ?_
    refine jw_cR (st := []) (sa := [vR 27 (jfr h 125 r0), vR 6 r1]) okX33_at rfl rfl rfl rfl rfl rfl (jstp_up (sa := [vR 6 r1]) (st := []) rfl (lw_g (jtb_mem (c := 12) (i := 49) rfl) rfl) um35 okX33_at g_2 (fun _ _ => by rw [e_6]; exact ⟨rfl, rfl⟩) rfl rfl) (w.2.2.2.2.2.2.2.1 e_6) (fun v_5 h_3 _ _ _ w => ?_)
    refine jw_gen (ls' := [some (vR 27 r0), none, some (vR 8 q0), none]) (st' := [vR 8 v_5]) (And.intro (Or.inl rfl) (And.intro (Or.inl rfl) (trivial))) (And.intro (Or.inl rfl) (trivial)) ?_
    exact w_X33_at_43 w
  · refine jw_gen (ls' := _) (st' := [vR 6 r1, vR 28 (jfr h 125 r0)]) (jgl_rf _ _) (And.intro (Or.inl rfl) (And.intro (Or.inr ⟨_, _, _, rfl, rfl, Or.inr (Or.inr (by rw [e_6]; rfl))⟩) (jgs_rf _ _))) ?_
    refine jw_cR (st := []) (sa := [vR 28 (jfr h 125 r0), vR 6 r1]) okX34_at rfl rfl rfl rfl rfl rfl (jstp_up (sa := [vR 6 r1]) (st := []) rfl (lw_g (jtb_mem (c := 12) (i := 49) rfl) rfl) um36 okX34_at g_2 (fun _ _ => by rw [e_6]; exact ⟨rfl, rfl⟩) rfl rfl) (w.2.2.2.2.2.2.2.2.1 e_6) (fun v_5 h_3 _ _ _ w => ?_)
    refine jw_gen (ls' := [some (vR 27 r0), none, some (vR 8 q0), none]) (st' := [vR 8 v_5]) (And.intro (Or.inl rfl) (And.intro (Or.inl rfl) (trivial))) (And.intro (Or.inl rfl) (trivial)) ?_
    exact w_X33_at_43 w
  · refine jw_gen (ls' := _) (st' := [vR 6 r1, vR 29 (jfr h 125 r0)]) (jgl_rf _ _) (And.intro (Or.inl rfl) (And.intro (Or.inr ⟨_, _, _, rfl, rfl, Or.inr (Or.inr (by rw [e_6]; rfl))⟩) (jgs_rf _ _))) ?_
    refine jw_cR (st := []) (sa := [vR 29 (jfr h 125 r0), vR 6 r1]) okX35_at rfl rfl rfl rfl rfl rfl (jstp_up (sa := [vR 6 r1]) (st := []) rfl (lw_g (jtb_mem (c := 12) (i := 49) rfl) rfl) um37 okX35_at g_2 (fun _ _ => by rw [e_6]; exact ⟨rfl, rfl⟩) rfl rfl) (w.2.2.2.2.2.2.2.2.2 e_6) (fun v_5 h_3 _ _ _ w => ?_)
    refine jw_gen (ls' := [some (vR 27 r0), none, some (vR 8 q0), none]) (st' := [vR 8 v_5]) (And.intro (Or.inl rfl) (And.intro (Or.inl rfl) (trivial))) (And.intro (Or.inl rfl) (trivial)) ?_
    exact w_X33_at_43 w
def W_X33_at_0 (D : JD) (d : Nat) (Q : JO → JH → Prop) (r0 : Nat) (r1 : Nat) (h : JH) : Prop :=
  r0 ≠ 0 ∧ (((jfr h 123 r0) = (jcs D 371) → W_X33_at_20 D d Q r0 r1 h) ∧ (¬ (jfr h 123 r0) = (jcs D 371) → (¬ (jfr h 123 r0) = (jcs D 372) → (jfr h 124 r0) ≠ 0 ∧ (v55_at D d (jfr h 124 r0) r1 h (pR D h 8 (fun v_7 h_5 => W_X33_at_34 D d Q r0 r1 v_7 h_5) (jth Q)))) ∧ ((jfr h 123 r0) = (jcs D 372) → W_X33_at_20 D d Q r0 r1 h)))
theorem w_X33_at_0 {D : JD} {d : Nat} {Q : JO → JH → Prop} {r0 : Nat} {r1 : Nat} {h : JH} (w : W_X33_at_0 D d Q r0 r1 h) : JW D (d + 1) mX33_at 0 [some (vR 27 r0), some (vR 6 r1), none, none] [] h Q := by
  unfold W_X33_at_0 at w
  refine jw_aload_n (pc' := 1) rfl rfl ?_
  obtain ⟨g_1, w⟩ := w
  refine jw_getR (pc' := 4) (F := 123) (t' := 54) rfl rfl rfl rfl rfl g_1 ?_
  refine jw_getsR (pc' := 7) rfl rfl rfl rfl ?_
  refine jw_acmp_eq (tgt := 20) (pc' := 10) rfl rfl (fun c_2 => ?_) (fun c_2 => ?_)
  · replace w := w.1 c_2
    exact w_X33_at_20 w
  · replace w := w.2 c_2
    refine jw_aload_n (pc' := 11) rfl rfl ?_
    refine jw_getR (pc' := 14) (F := 123) (t' := 54) rfl rfl rfl rfl rfl g_1 ?_
    refine jw_getsR (pc' := 17) rfl rfl rfl rfl ?_
    refine jw_acmp_ne (tgt := 26) (pc' := 20) rfl rfl (fun c_3 => ?_) (fun c_3 => ?_)
    · replace w := w.1 c_3
      refine jw_aload_n (pc' := 27) rfl rfl ?_
      refine jw_getR (pc' := 30) (F := 124) (t' := 55) rfl rfl rfl rfl rfl g_1 ?_
      refine jw_aload_n (pc' := 31) rfl rfl ?_
      obtain ⟨g_4, w⟩ := w
      refine JW.inv (fun hI => JW.oks (fun ho => ?_))
      have hkd := und55.k hI (ho (vR 55 (jfr h 124 r0)) (by simp)) g_4
      simp only [List.mem_cons, List.not_mem_nil, or_false] at hkd
      clear ho hI
      rcases hkd with e_8 | e_8 | e_8 | e_8 | e_8 | e_8 | e_8 | e_8 | e_8 | e_8
      · refine jw_gen (ls' := _) (st' := [vR 6 r1, vR 20 (jfr h 124 r0)]) (jgl_rf _ _) (And.intro (Or.inl rfl) (And.intro (Or.inr ⟨_, _, _, rfl, rfl, Or.inr (Or.inr (by rw [e_8]; rfl))⟩) (jgs_rf _ _))) ?_
        refine jw_cR (st := []) (sa := [vR 20 (jfr h 124 r0), vR 6 r1]) okX25_at rfl rfl rfl rfl rfl rfl (jstp_up (sa := [vR 6 r1]) (st := []) rfl (lw_g (jtb_mem (c := 12) (i := 49) rfl) rfl) um28 okX25_at g_4 (fun _ _ => by rw [e_8]; exact ⟨rfl, rfl⟩) rfl rfl) (w.1 e_8) (fun v_7 h_5 _ _ _ w => ?_)
        exact w_X33_at_34 w
      · refine jw_gen (ls' := _) (st' := [vR 6 r1, vR 21 (jfr h 124 r0)]) (jgl_rf _ _) (And.intro (Or.inl rfl) (And.intro (Or.inr ⟨_, _, _, rfl, rfl, Or.inr (Or.inr (by rw [e_8]; rfl))⟩) (jgs_rf _ _))) ?_
        refine jw_cR (st := []) (sa := [vR 21 (jfr h 124 r0), vR 6 r1]) okX27_at rfl rfl rfl rfl rfl rfl (jstp_up (sa := [vR 6 r1]) (st := []) rfl (lw_g (jtb_mem (c := 12) (i := 49) rfl) rfl) um29 okX27_at g_4 (fun _ _ => by rw [e_8]; exact ⟨rfl, rfl⟩) rfl rfl) (w.2.1 e_8) (fun v_7 h_5 _ _ _ w => ?_)
        exact w_X33_at_34 w
      · refine jw_gen (ls' := _) (st' := [vR 6 r1, vR 22 (jfr h 124 r0)]) (jgl_rf _ _) (And.intro (Or.inl rfl) (And.intro (Or.inr ⟨_, _, _, rfl, rfl, Or.inr (Or.inr (by rw [e_8]; rfl))⟩) (jgs_rf _ _))) ?_
        refine jw_cR (st := []) (sa := [vR 22 (jfr h 124 r0), vR 6 r1]) okX28_at rfl rfl rfl rfl rfl rfl (jstp_up (sa := [vR 6 r1]) (st := []) rfl (lw_g (jtb_mem (c := 12) (i := 49) rfl) rfl) um30 okX28_at g_4 (fun _ _ => by rw [e_8]; exact ⟨rfl, rfl⟩) rfl rfl) (w.2.2.1 e_8) (fun v_7 h_5 _ _ _ w => ?_)
        exact w_X33_at_34 w
      · refine jw_gen (ls' := _) (st' := [vR 6 r1, vR 23 (jfr h 124 r0)]) (jgl_rf _ _) (And.intro (Or.inl rfl) (And.intro (Or.inr ⟨_, _, _, rfl, rfl, Or.inr (Or.inr (by rw [e_8]; rfl))⟩) (jgs_rf _ _))) ?_
        refine jw_cR (st := []) (sa := [vR 23 (jfr h 124 r0), vR 6 r1]) okX29_at rfl rfl rfl rfl rfl rfl (jstp_up (sa := [vR 6 r1]) (st := []) rfl (lw_g (jtb_mem (c := 12) (i := 49) rfl) rfl) um31 okX29_at g_4 (fun _ _ => by rw [e_8]; exact ⟨rfl, rfl⟩) rfl rfl) (w.2.2.2.1 e_8) (fun v_7 h_5 _ _ _ w => ?_)
        exact w_X33_at_34 w
      · refine jw_gen (ls' := _) (st' := [vR 6 r1, vR 24 (jfr h 124 r0)]) (jgl_rf _ _) (And.intro (Or.inl rfl) (And.intro (Or.inr ⟨_, _, _, rfl, rfl, Or.inr (Or.inr (by rw [e_8]; rfl))⟩) (jgs_rf _ _))) ?_
        refine jw_cR (st := []) (sa := [vR 24 (jfr h 124 r0), vR 6 r1]) okX30_at rfl rfl rfl rfl rfl rfl (jstp_up (sa := [vR 6 r1]) (st := []) rfl (lw_g (jtb_mem (c := 12) (i := 49) rfl) rfl) um32 okX30_at g_4 (fun _ _ => by rw [e_8]; exact ⟨rfl, rfl⟩) rfl rfl) (w.2.2.2.2.1 e_8) (fun v_7 h_5 _ _ _ w => ?_)
        exact w_X33_at_34 w
      · refine jw_gen (ls' := _) (st' := [vR 6 r1, vR 25 (jfr h 124 r0)]) (jgl_rf _ _) (And.intro (Or.inl rfl) (And.intro (Or.inr ⟨_, _, _, rfl, rfl, Or.inr (Or.inr (by rw [e_8]; rfl))⟩) (jgs_rf _ _))) ?_
        refine jw_cR (st := []) (sa := [vR 25 (jfr h 124 r0), vR 6 r1]) okX31_at rfl rfl rfl rfl rfl rfl (jstp_up (sa := [vR 6 r1]) (st := []) rfl (lw_g (jtb_mem (c := 12) (i := 49) rfl) rfl) um33 okX31_at g_4 (fun _ _ => by rw [e_8]; exact ⟨rfl, rfl⟩) rfl rfl) (w.2.2.2.2.2.1 e_8) (fun v_7 h_5 _ _ _ w => ?_)
        exact w_X33_at_34 w
      · refine jw_gen (ls' := _) (st' := [vR 6 r1, vR 26 (jfr h 124 r0)]) (jgl_rf _ _) (And.intro (Or.inl rfl) (And.intro (Or.inr ⟨_, _, _, rfl, rfl, Or.inr (Or.inr (by rw [e_8]; rfl))⟩) (jgs_rf _ _))) ?_
        refine jw_cR (st := []) (sa := [vR 26 (jfr h 124 r0), vR 6 r1]) okX32_at rfl rfl rfl rfl rfl rfl (jstp_up (sa := [vR 6 r1]) (st := []) rfl (lw_g (jtb_mem (c := 12) (i := 49) rfl) rfl) um34 okX32_at g_4 (fun _ _ => by rw [e_8]; exact ⟨rfl, rfl⟩) rfl rfl) (w.2.2.2.2.2.2.1 e_8) (fun v_7 h_5 _ _ _ w => ?_)
        exact w_X33_at_34 w
      · refine jw_gen (ls' := _) (st' := [vR 6 r1, vR 27 (jfr h 124 r0)]) (jgl_rf _ _) (And.intro (Or.inl rfl) (And.intro (Or.inr ⟨_, _, _, rfl, rfl, Or.inr (Or.inr (by rw [e_8]; rfl))⟩) (jgs_rf _ _))) ?_
        refine jw_cR (st := []) (sa := [vR 27 (jfr h 124 r0), vR 6 r1]) okX33_at rfl rfl rfl rfl rfl rfl (jstp_up (sa := [vR 6 r1]) (st := []) rfl (lw_g (jtb_mem (c := 12) (i := 49) rfl) rfl) um35 okX33_at g_4 (fun _ _ => by rw [e_8]; exact ⟨rfl, rfl⟩) rfl rfl) (w.2.2.2.2.2.2.2.1 e_8) (fun v_7 h_5 _ _ _ w => ?_)
        exact w_X33_at_34 w
      · refine jw_gen (ls' := _) (st' := [vR 6 r1, vR 28 (jfr h 124 r0)]) (jgl_rf _ _) (And.intro (Or.inl rfl) (And.intro (Or.inr ⟨_, _, _, rfl, rfl, Or.inr (Or.inr (by rw [e_8]; rfl))⟩) (jgs_rf _ _))) ?_
        refine jw_cR (st := []) (sa := [vR 28 (jfr h 124 r0), vR 6 r1]) okX34_at rfl rfl rfl rfl rfl rfl (jstp_up (sa := [vR 6 r1]) (st := []) rfl (lw_g (jtb_mem (c := 12) (i := 49) rfl) rfl) um36 okX34_at g_4 (fun _ _ => by rw [e_8]; exact ⟨rfl, rfl⟩) rfl rfl) (w.2.2.2.2.2.2.2.2.1 e_8) (fun v_7 h_5 _ _ _ w => ?_)
        exact w_X33_at_34 w
      · refine jw_gen (ls' := _) (st' := [vR 6 r1, vR 29 (jfr h 124 r0)]) (jgl_rf _ _) (And.intro (Or.inl rfl) (And.intro (Or.inr ⟨_, _, _, rfl, rfl, Or.inr (Or.inr (by rw [e_8]; rfl))⟩) (jgs_rf _ _))) ?_
        refine jw_cR (st := []) (sa := [vR 29 (jfr h 124 r0), vR 6 r1]) okX35_at rfl rfl rfl rfl rfl rfl (jstp_up (sa := [vR 6 r1]) (st := []) rfl (lw_g (jtb_mem (c := 12) (i := 49) rfl) rfl) um37 okX35_at g_4 (fun _ _ => by rw [e_8]; exact ⟨rfl, rfl⟩) rfl rfl) (w.2.2.2.2.2.2.2.2.2 e_8) (fun v_7 h_5 _ _ _ w => ?_)
        exact w_X33_at_34 w
    · replace w := w.2 c_3
      exact w_X33_at_20 w
def T_X33_at (D : JD) (d : Nat) (Q : JO → JH → Prop) (r0 : Nat) (r1 : Nat) (h : JH) : Prop := W_X33_at_0 D d Q r0 r1 h
theorem t_X33_at {D : JD} {d : Nat} {Q : JO → JH → Prop} {r0 : Nat} {r1 : Nat} {h : JH} (w : T_X33_at D d Q r0 r1 h) : cX33_at D (d + 1) r0 r1 h Q := by
  unfold T_X33_at at w
  unfold cX33_at
  exact w_X33_at_0 w
def W_X33_logic_128 (D : JD) (d : Nat) (Q : JO → JH → Prop) (q0 : Nat) (h : JH) : Prop :=
  Q (.inl (some (vR 8 q0))) h
theorem w_X33_logic_128 {D : JD} {d : Nat} {Q : JO → JH → Prop} {q0 : Nat} {h : JH} (w : W_X33_logic_128 D d Q q0 h) : JW D (d + 1) mX33_logic 128 [none, none, none, none, none, none] [vR 8 q0] h Q := by
  unfold W_X33_logic_128 at w
  exact jw_areturn rfl rfl rfl rfl rfl w
def W_X33_logic_102 (D : JD) (d : Nat) (Q : JO → JH → Prop) (r0 : Nat) (h : JH) : Prop :=
  r0 ≠ 0 ∧ ((jfr h 108 r0) ≠ 0 ∧ (cX14_none D d (jfr h 108 r0) h (pR D h 8 (fun v_5 h_3 => W_X33_logic_128 D d Q v_5 h_3) (jth Q))))
theorem w_X33_logic_102 {D : JD} {d : Nat} {Q : JO → JH → Prop} {r0 : Nat} {h : JH} (w : W_X33_logic_102 D d Q r0 h) : JW D (d + 1) mX33_logic 102 [some (vR 27 r0), none, none, none, none, none] [] h Q := by
  unfold W_X33_logic_102 at w
  refine jw_aload_n (pc' := 103) rfl rfl ?_
  obtain ⟨g_1, w⟩ := w
  refine jw_getR (pc' := 106) (F := 108) (t' := 98) rfl rfl rfl rfl rfl g_1 ?_
  obtain ⟨g_2, w⟩ := w
  refine jw_cR (st := []) (sa := [vR 98 (jfr h 108 r0)]) okX14_none rfl rfl rfl rfl rfl rfl (jstp_virtual (sa := []) (st := []) (k := 0) rfl rfl sX14_none okX14_none g_2 (one98.k g_2) rfl rfl) w (fun v_5 h_3 _ _ _ w => ?_)
  refine jw_goto (pc' := 128) rfl rfl ?_
  refine jw_gen (ls' := [none, none, none, none, none, none]) (st' := [vR 8 v_5]) (trivial) (And.intro (Or.inl rfl) (trivial)) ?_
  exact w_X33_logic_128 w
def W_X33_logic_125 (D : JD) (d : Nat) (Q : JO → JH → Prop) (q0 : Nat) (s1 : Int32) (h : JH) : Prop :=
  q0 ≠ 0 ∧ (cX14_truth D d q0 s1 h (pR D h 8 (fun v_4 h_2 => W_X33_logic_128 D d Q v_4 h_2) (jth Q)))
theorem w_X33_logic_125 {D : JD} {d : Nat} {Q : JO → JH → Prop} {q0 : Nat} {s1 : Int32} {h : JH} (w : W_X33_logic_125 D d Q q0 s1 h) : JW D (d + 1) mX33_logic 125 [none, none, none, none, none, none] [vI s1, vR 98 q0] h Q := by
  unfold W_X33_logic_125 at w
  obtain ⟨g_1, w⟩ := w
  refine jw_cR (st := []) (sa := [vR 98 q0, vI s1]) okX14_truth rfl rfl rfl rfl rfl rfl (jstp_virtual (sa := [vI s1]) (st := []) (k := 0) rfl rfl sX14_truth okX14_truth g_1 (one98.k g_1) rfl rfl) w (fun v_4 h_2 _ _ _ w => ?_)
  exact w_X33_logic_128 w
def W_X33_logic_89 (D : JD) (d : Nat) (Q : JO → JH → Prop) (r0 : Nat) (x2 : Int32) (x4 : Int32) (r5 : Nat) (h : JH) : Prop :=
  (¬ x4 = 0 → W_X33_logic_102 D d Q r0 h) ∧ (x4 = 0 → r5 ≠ 0 ∧ (cX14_isEmpty D d r5 h (pI D h (fun v_5 h_3 => (v_5 = 0 → r0 ≠ 0 ∧ ((¬ x2 = 0 → W_X33_logic_125 D d Q (jfr h_3 108 r0) (0 : Int32) h_3) ∧ (x2 = 0 → W_X33_logic_125 D d Q (jfr h_3 108 r0) (1 : Int32) h_3))) ∧ (¬ v_5 = 0 → W_X33_logic_102 D d Q r0 h_3)) (jth Q))))
theorem w_X33_logic_89 {D : JD} {d : Nat} {Q : JO → JH → Prop} {r0 : Nat} {x2 : Int32} {x4 : Int32} {r5 : Nat} {h : JH} (w : W_X33_logic_89 D d Q r0 x2 x4 r5 h) : JW D (d + 1) mX33_logic 89 [some (vR 27 r0), none, some (vI x2), none, some (vI x4), some (vR 8 r5)] [] h Q := by
  unfold W_X33_logic_89 at w
  refine jw_iload (pc' := 91) rfl rfl ?_
  refine jw_if_ne (tgt := 102) (pc' := 94) rfl rfl (fun c_1 => ?_) (fun c_1 => ?_)
  · replace w := w.1 c_1
    refine jw_gen (ls' := [some (vR 27 r0), none, none, none, none, none]) (st' := []) (And.intro (Or.inl rfl) (trivial)) (trivial) ?_
    exact w_X33_logic_102 w
  · replace w := w.2 c_1
    refine jw_aload (pc' := 96) rfl rfl ?_
    obtain ⟨g_2, w⟩ := w
    refine jw_cI (st := []) (sa := [vR 8 r5]) okX14_isEmpty rfl rfl rfl rfl rfl rfl (jstp_virtual (sa := []) (st := []) (k := 0) rfl rfl sX14_isEmpty okX14_isEmpty g_2 (one8.k g_2) rfl rfl) w (fun v_5 h_3 _ _ w => ?_)
    refine jw_if_eq (tgt := 112) (pc' := 102) rfl rfl (fun c_6 => ?_) (fun c_6 => ?_)
    · replace w := w.1 c_6
      refine jw_aload_n (pc' := 113) rfl rfl ?_
      obtain ⟨g_7, w⟩ := w
      refine jw_getR (pc' := 116) (F := 108) (t' := 98) rfl rfl rfl rfl rfl g_7 ?_
      refine jw_iload_n (pc' := 117) rfl rfl ?_
      refine jw_if_ne (tgt := 124) (pc' := 120) rfl rfl (fun c_8 => ?_) (fun c_8 => ?_)
      · replace w := w.1 c_8
        refine jw_iconst (pc' := 125) (x := (0 : Int32)) rfl rfl ?_
        refine jw_gen (ls' := [none, none, none, none, none, none]) (st' := [vI (0 : Int32), vR 98 (jfr h_3 108 r0)]) (trivial) (And.intro (Or.inl rfl) (And.intro (Or.inl rfl) (trivial))) ?_
        exact w_X33_logic_125 w
      · replace w := w.2 c_8
        refine jw_iconst (pc' := 121) (x := (1 : Int32)) rfl rfl ?_
        refine jw_goto (pc' := 125) rfl rfl ?_
        refine jw_gen (ls' := [none, none, none, none, none, none]) (st' := [vI (1 : Int32), vR 98 (jfr h_3 108 r0)]) (trivial) (And.intro (Or.inl rfl) (And.intro (Or.inl rfl) (trivial))) ?_
        exact w_X33_logic_125 w
    · replace w := w.2 c_6
      refine jw_gen (ls' := [some (vR 27 r0), none, none, none, none, none]) (st' := []) (And.intro (Or.inl rfl) (trivial)) (trivial) ?_
      exact w_X33_logic_102 w
def W_X33_logic_61 (D : JD) (d : Nat) (Q : JO → JH → Prop) (r0 : Nat) (x2 : Int32) (x4 : Int32) (q0 : Nat) (h : JH) : Prop :=
  q0 ≠ 0 ∧ (cX14_isEmpty D d q0 h (pI D h (fun v_4 h_2 => (¬ v_4 = 0 → W_X33_logic_89 D d Q r0 x2 x4 q0 h_2) ∧ (v_4 = 0 → cX14_isTrue D d q0 h_2 (pI D h_2 (fun v_8 h_6 => (¬ v_8 = x2 → W_X33_logic_89 D d Q r0 x2 x4 q0 h_6) ∧ (v_8 = x2 → r0 ≠ 0 ∧ ((jfr h_6 108 r0) ≠ 0 ∧ (cX14_truth D d (jfr h_6 108 r0) x2 h_6 (pR D h_6 8 (fun v_14 h_12 => Q (.inl (some (vR 8 v_14))) h_12) (jth Q)))))) (jth Q)))) (jth Q)))
theorem w_X33_logic_61 {D : JD} {d : Nat} {Q : JO → JH → Prop} {r0 : Nat} {x2 : Int32} {x4 : Int32} {q0 : Nat} {h : JH} (w : W_X33_logic_61 D d Q r0 x2 x4 q0 h) : JW D (d + 1) mX33_logic 61 [some (vR 27 r0), none, some (vI x2), none, some (vI x4), none] [vR 8 q0] h Q := by
  unfold W_X33_logic_61 at w
  refine jw_astore (pc' := 63) (ls' := [some (vR 27 r0), none, some (vI x2), none, some (vI x4), some (vR 8 q0)]) rfl (by decide) rfl ?_
  refine jw_aload (pc' := 65) rfl rfl ?_
  obtain ⟨g_1, w⟩ := w
  refine jw_cI (st := []) (sa := [vR 8 q0]) okX14_isEmpty rfl rfl rfl rfl rfl rfl (jstp_virtual (sa := []) (st := []) (k := 0) rfl rfl sX14_isEmpty okX14_isEmpty g_1 (one8.k g_1) rfl rfl) w (fun v_4 h_2 _ _ w => ?_)
  refine jw_if_ne (tgt := 89) (pc' := 71) rfl rfl (fun c_5 => ?_) (fun c_5 => ?_)
  · replace w := w.1 c_5
    exact w_X33_logic_89 w
  · replace w := w.2 c_5
    refine jw_aload (pc' := 73) rfl rfl ?_
    refine jw_cI (st := []) (sa := [vR 8 q0]) okX14_isTrue rfl rfl rfl rfl rfl rfl (jstp_virtual (sa := []) (st := []) (k := 0) rfl rfl sX14_isTrue okX14_isTrue g_1 (one8.k g_1) rfl rfl) w (fun v_8 h_6 _ _ w => ?_)
    refine jw_iload_n (pc' := 77) rfl rfl ?_
    refine jw_icmp_ne (tgt := 89) (pc' := 80) rfl rfl (fun c_9 => ?_) (fun c_9 => ?_)
    · replace w := w.1 c_9
      exact w_X33_logic_89 w
    · replace w := w.2 c_9
      refine jw_aload_n (pc' := 81) rfl rfl ?_
      obtain ⟨g_10, w⟩ := w
      refine jw_getR (pc' := 84) (F := 108) (t' := 98) rfl rfl rfl rfl rfl g_10 ?_
      refine jw_iload_n (pc' := 85) rfl rfl ?_
      obtain ⟨g_11, w⟩ := w
      refine jw_cR (st := []) (sa := [vR 98 (jfr h_6 108 r0), vI x2]) okX14_truth rfl rfl rfl rfl rfl rfl (jstp_virtual (sa := [vI x2]) (st := []) (k := 0) rfl rfl sX14_truth okX14_truth g_11 (one98.k g_11) rfl rfl) w (fun v_14 h_12 _ _ _ w => ?_)
      exact jw_areturn rfl rfl rfl rfl rfl w
def W_X33_logic_53 (D : JD) (d : Nat) (Q : JO → JH → Prop) (r0 : Nat) (r1 : Nat) (x2 : Int32) (x4 : Int32) (h : JH) : Prop :=
  r0 ≠ 0 ∧ ((jfr h 125 r0) ≠ 0 ∧ (v55_at D d (jfr h 125 r0) r1 h (pR D h 8 (fun v_5 h_3 => W_X33_logic_61 D d Q r0 x2 x4 v_5 h_3) (jth Q))))
theorem w_X33_logic_53 {D : JD} {d : Nat} {Q : JO → JH → Prop} {r0 : Nat} {r1 : Nat} {x2 : Int32} {x4 : Int32} {h : JH} (w : W_X33_logic_53 D d Q r0 r1 x2 x4 h) : JW D (d + 1) mX33_logic 53 [some (vR 27 r0), some (vR 6 r1), some (vI x2), none, some (vI x4), none] [] h Q := by
  unfold W_X33_logic_53 at w
  refine jw_aload_n (pc' := 54) rfl rfl ?_
  obtain ⟨g_1, w⟩ := w
  refine jw_getR (pc' := 57) (F := 125) (t' := 55) rfl rfl rfl rfl rfl g_1 ?_
  refine jw_aload_n (pc' := 58) rfl rfl ?_
  obtain ⟨g_2, w⟩ := w
  refine JW.inv (fun hI => JW.oks (fun ho => ?_))
  have hkd := und55.k hI (ho (vR 55 (jfr h 125 r0)) (by simp)) g_2
  simp only [List.mem_cons, List.not_mem_nil, or_false] at hkd
  clear ho hI
  rcases hkd with e_6 | e_6 | e_6 | e_6 | e_6 | e_6 | e_6 | e_6 | e_6 | e_6
  · refine jw_gen (ls' := _) (st' := [vR 6 r1, vR 20 (jfr h 125 r0)]) (jgl_rf _ _) (And.intro (Or.inl rfl) (And.intro (Or.inr ⟨_, _, _, rfl, rfl, Or.inr (Or.inr (by rw [e_6]; rfl))⟩) (jgs_rf _ _))) ?_
    refine jw_cR (st := []) (sa := [vR 20 (jfr h 125 r0), vR 6 r1]) okX25_at rfl rfl rfl rfl rfl rfl (jstp_up (sa := [vR 6 r1]) (st := []) rfl (lw_g (jtb_mem (c := 12) (i := 49) rfl) rfl) um28 okX25_at g_2 (fun _ _ => by rw [e_6]; exact ⟨rfl, rfl⟩) rfl rfl) (w.1 e_6) (fun v_5 h_3 _ _ _ w => ?_)
    refine jw_gen (ls' := [some (vR 27 r0), none, some (vI x2), none, some (vI x4), none]) (st' := [vR 8 v_5]) (And.intro (Or.inl rfl) (And.intro (Or.inl rfl) (And.intro (Or.inl rfl) (trivial)))) (And.intro (Or.inl rfl) (trivial)) ?_
    exact w_X33_logic_61 w
  · refine jw_gen (ls' := _) (st' := [vR 6 r1, vR 21 (jfr h 125 r0)]) (jgl_rf _ _) (And.intro (Or.inl rfl) (And.intro (Or.inr ⟨_, _, _, rfl, rfl, Or.inr (Or.inr (by rw [e_6]; rfl))⟩) (jgs_rf _ _))) ?_
    refine jw_cR (st := []) (sa := [vR 21 (jfr h 125 r0), vR 6 r1]) okX27_at rfl rfl rfl rfl rfl rfl (jstp_up (sa := [vR 6 r1]) (st := []) rfl (lw_g (jtb_mem (c := 12) (i := 49) rfl) rfl) um29 okX27_at g_2 (fun _ _ => by rw [e_6]; exact ⟨rfl, rfl⟩) rfl rfl) (w.2.1 e_6) (fun v_5 h_3 _ _ _ w => ?_)
    refine jw_gen (ls' := [some (vR 27 r0), none, some (vI x2), none, some (vI x4), none]) (st' := [vR 8 v_5]) (And.intro (Or.inl rfl) (And.intro (Or.inl rfl) (And.intro (Or.inl rfl) (trivial)))) (And.intro (Or.inl rfl) (trivial)) ?_
    exact w_X33_logic_61 w
  · refine jw_gen (ls' := _) (st' := [vR 6 r1, vR 22 (jfr h 125 r0)]) (jgl_rf _ _) (And.intro (Or.inl rfl) (And.intro (Or.inr ⟨_, _, _, rfl, rfl, Or.inr (Or.inr (by rw [e_6]; rfl))⟩) (jgs_rf _ _))) ?_
    refine jw_cR (st := []) (sa := [vR 22 (jfr h 125 r0), vR 6 r1]) okX28_at rfl rfl rfl rfl rfl rfl (jstp_up (sa := [vR 6 r1]) (st := []) rfl (lw_g (jtb_mem (c := 12) (i := 49) rfl) rfl) um30 okX28_at g_2 (fun _ _ => by rw [e_6]; exact ⟨rfl, rfl⟩) rfl rfl) (w.2.2.1 e_6) (fun v_5 h_3 _ _ _ w => ?_)
    refine jw_gen (ls' := [some (vR 27 r0), none, some (vI x2), none, some (vI x4), none]) (st' := [vR 8 v_5]) (And.intro (Or.inl rfl) (And.intro (Or.inl rfl) (And.intro (Or.inl rfl) (trivial)))) (And.intro (Or.inl rfl) (trivial)) ?_
    exact w_X33_logic_61 w
  · refine jw_gen (ls' := _) (st' := [vR 6 r1, vR 23 (jfr h 125 r0)]) (jgl_rf _ _) (And.intro (Or.inl rfl) (And.intro (Or.inr ⟨_, _, _, rfl, rfl, Or.inr (Or.inr (by rw [e_6]; rfl))⟩) (jgs_rf _ _))) ?_
    refine jw_cR (st := []) (sa := [vR 23 (jfr h 125 r0), vR 6 r1]) okX29_at rfl rfl rfl rfl rfl rfl (jstp_up (sa := [vR 6 r1]) (st := []) rfl (lw_g (jtb_mem (c := 12) (i := 49) rfl) rfl) um31 okX29_at g_2 (fun _ _ => by rw [e_6]; exact ⟨rfl, rfl⟩) rfl rfl) (w.2.2.2.1 e_6) (fun v_5 h_3 _ _ _ w => ?_)
    refine jw_gen (ls' := [some (vR 27 r0), none, some (vI x2), none, some (vI x4), none]) (st' := [vR 8 v_5]) (And.intro (Or.inl rfl) (And.intro (Or.inl rfl) (And.intro (Or.inl rfl) (trivial)))) (And.intro (Or.inl rfl) (trivial)) ?_
    exact w_X33_logic_61 w
  · refine jw_gen (ls' := _) (st' := [vR 6 r1, vR 24 (jfr h 125 r0)]) (jgl_rf _ _) (And.intro (Or.inl rfl) (And.intro (Or.inr ⟨_, _, _, rfl, rfl, Or.inr (Or.inr (by rw [e_6]; rfl))⟩) (jgs_rf _ _))) ?_
    refine jw_cR (st := []) (sa := [vR 24 (jfr h 125 r0), vR 6 r1]) okX30_at rfl rfl rfl rfl rfl rfl (jstp_up (sa := [vR 6 r1]) (st := []) rfl (lw_g (jtb_mem (c := 12) (i := 49) rfl) rfl) um32 okX30_at g_2 (fun _ _ => by rw [e_6]; exact ⟨rfl, rfl⟩) rfl rfl) (w.2.2.2.2.1 e_6) (fun v_5 h_3 _ _ _ w => ?_)
    refine jw_gen (ls' := [some (vR 27 r0), none, some (vI x2), none, some (vI x4), none]) (st' := [vR 8 v_5]) (And.intro (Or.inl rfl) (And.intro (Or.inl rfl) (And.intro (Or.inl rfl) (trivial)))) (And.intro (Or.inl rfl) (trivial)) ?_
    exact w_X33_logic_61 w
  · refine jw_gen (ls' := _) (st' := [vR 6 r1, vR 25 (jfr h 125 r0)]) (jgl_rf _ _) (And.intro (Or.inl rfl) (And.intro (Or.inr ⟨_, _, _, rfl, rfl, Or.inr (Or.inr (by rw [e_6]; rfl))⟩) (jgs_rf _ _))) ?_
    refine jw_cR (st := []) (sa := [vR 25 (jfr h 125 r0), vR 6 r1]) okX31_at rfl rfl rfl rfl rfl rfl (jstp_up (sa := [vR 6 r1]) (st := []) rfl (lw_g (jtb_mem (c := 12) (i := 49) rfl) rfl) um33 okX31_at g_2 (fun _ _ => by rw [e_6]; exact ⟨rfl, rfl⟩) rfl rfl) (w.2.2.2.2.2.1 e_6) (fun v_5 h_3 _ _ _ w => ?_)
    refine jw_gen (ls' := [some (vR 27 r0), none, some (vI x2), none, some (vI x4), none]) (st' := [vR 8 v_5]) (And.intro (Or.inl rfl) (And.intro (Or.inl rfl) (And.intro (Or.inl rfl) (trivial)))) (And.intro (Or.inl rfl) (trivial)) ?_
    exact w_X33_logic_61 w
  · refine jw_gen (ls' := _) (st' := [vR 6 r1, vR 26 (jfr h 125 r0)]) (jgl_rf _ _) (And.intro (Or.inl rfl) (And.intro (Or.inr ⟨_, _, _, rfl, rfl, Or.inr (Or.inr (by rw [e_6]; rfl))⟩) (jgs_rf _ _))) ?_
    refine jw_cR (st := []) (sa := [vR 26 (jfr h 125 r0), vR 6 r1]) okX32_at rfl rfl rfl rfl rfl rfl (jstp_up (sa := [vR 6 r1]) (st := []) rfl (lw_g (jtb_mem (c := 12) (i := 49) rfl) rfl) um34 okX32_at g_2 (fun _ _ => by rw [e_6]; exact ⟨rfl, rfl⟩) rfl rfl) (w.2.2.2.2.2.2.1 e_6) (fun v_5 h_3 _ _ _ w => ?_)
    refine jw_gen (ls' := [some (vR 27 r0), none, some (vI x2), none, some (vI x4), none]) (st' := [vR 8 v_5]) (And.intro (Or.inl rfl) (And.intro (Or.inl rfl) (And.intro (Or.inl rfl) (trivial)))) (And.intro (Or.inl rfl) (trivial)) ?_
    exact w_X33_logic_61 w
  · refine jw_gen (ls' := _) (st' := [vR 6 r1, vR 27 (jfr h 125 r0)]) (jgl_rf _ _) (And.intro (Or.inl rfl) (And.intro (Or.inr ⟨_, _, _, rfl, rfl, Or.inr (Or.inr (by rw [e_6]; rfl))⟩) (jgs_rf _ _))) ?_
    refine jw_cR (st := []) (sa := [vR 27 (jfr h 125 r0), vR 6 r1]) okX33_at rfl rfl rfl rfl rfl rfl (jstp_up (sa := [vR 6 r1]) (st := []) rfl (lw_g (jtb_mem (c := 12) (i := 49) rfl) rfl) um35 okX33_at g_2 (fun _ _ => by rw [e_6]; exact ⟨rfl, rfl⟩) rfl rfl) (w.2.2.2.2.2.2.2.1 e_6) (fun v_5 h_3 _ _ _ w => ?_)
    refine jw_gen (ls' := [some (vR 27 r0), none, some (vI x2), none, some (vI x4), none]) (st' := [vR 8 v_5]) (And.intro (Or.inl rfl) (And.intro (Or.inl rfl) (And.intro (Or.inl rfl) (trivial)))) (And.intro (Or.inl rfl) (trivial)) ?_
    exact w_X33_logic_61 w
  · refine jw_gen (ls' := _) (st' := [vR 6 r1, vR 28 (jfr h 125 r0)]) (jgl_rf _ _) (And.intro (Or.inl rfl) (And.intro (Or.inr ⟨_, _, _, rfl, rfl, Or.inr (Or.inr (by rw [e_6]; rfl))⟩) (jgs_rf _ _))) ?_
    refine jw_cR (st := []) (sa := [vR 28 (jfr h 125 r0), vR 6 r1]) okX34_at rfl rfl rfl rfl rfl rfl (jstp_up (sa := [vR 6 r1]) (st := []) rfl (lw_g (jtb_mem (c := 12) (i := 49) rfl) rfl) um36 okX34_at g_2 (fun _ _ => by rw [e_6]; exact ⟨rfl, rfl⟩) rfl rfl) (w.2.2.2.2.2.2.2.2.1 e_6) (fun v_5 h_3 _ _ _ w => ?_)
    refine jw_gen (ls' := [some (vR 27 r0), none, some (vI x2), none, some (vI x4), none]) (st' := [vR 8 v_5]) (And.intro (Or.inl rfl) (And.intro (Or.inl rfl) (And.intro (Or.inl rfl) (trivial)))) (And.intro (Or.inl rfl) (trivial)) ?_
    exact w_X33_logic_61 w
  · refine jw_gen (ls' := _) (st' := [vR 6 r1, vR 29 (jfr h 125 r0)]) (jgl_rf _ _) (And.intro (Or.inl rfl) (And.intro (Or.inr ⟨_, _, _, rfl, rfl, Or.inr (Or.inr (by rw [e_6]; rfl))⟩) (jgs_rf _ _))) ?_
    refine jw_cR (st := []) (sa := [vR 29 (jfr h 125 r0), vR 6 r1]) okX35_at rfl rfl rfl rfl rfl rfl (jstp_up (sa := [vR 6 r1]) (st := []) rfl (lw_g (jtb_mem (c := 12) (i := 49) rfl) rfl) um37 okX35_at g_2 (fun _ _ => by rw [e_6]; exact ⟨rfl, rfl⟩) rfl rfl) (w.2.2.2.2.2.2.2.2.2 e_6) (fun v_5 h_3 _ _ _ w => ?_)
    refine jw_gen (ls' := [some (vR 27 r0), none, some (vI x2), none, some (vI x4), none]) (st' := [vR 8 v_5]) (And.intro (Or.inl rfl) (And.intro (Or.inl rfl) (And.intro (Or.inl rfl) (trivial)))) (And.intro (Or.inl rfl) (trivial)) ?_
    exact w_X33_logic_61 w
def W_X33_logic_24 (D : JD) (d : Nat) (Q : JO → JH → Prop) (r0 : Nat) (r1 : Nat) (x2 : Int32) (q0 : Nat) (h : JH) : Prop :=
  q0 ≠ 0 ∧ (cX14_isEmpty D d q0 h (pI D h (fun v_4 h_2 => (¬ v_4 = 0 → W_X33_logic_53 D d Q r0 r1 x2 v_4 h_2) ∧ (v_4 = 0 → cX14_isTrue D d q0 h_2 (pI D h_2 (fun v_8 h_6 => (¬ v_8 = x2 → W_X33_logic_53 D d Q r0 r1 x2 v_4 h_6) ∧ (v_8 = x2 → r0 ≠ 0 ∧ ((jfr h_6 108 r0) ≠ 0 ∧ (cX14_truth D d (jfr h_6 108 r0) x2 h_6 (pR D h_6 8 (fun v_14 h_12 => Q (.inl (some (vR 8 v_14))) h_12) (jth Q)))))) (jth Q)))) (jth Q)))
theorem w_X33_logic_24 {D : JD} {d : Nat} {Q : JO → JH → Prop} {r0 : Nat} {r1 : Nat} {x2 : Int32} {q0 : Nat} {h : JH} (w : W_X33_logic_24 D d Q r0 r1 x2 q0 h) : JW D (d + 1) mX33_logic 24 [some (vR 27 r0), some (vR 6 r1), some (vI x2), none, none, none] [vR 8 q0] h Q := by
  unfold W_X33_logic_24 at w
  refine jw_astore_n (pc' := 25) (ls' := [some (vR 27 r0), some (vR 6 r1), some (vI x2), some (vR 8 q0), none, none]) rfl (by decide) rfl ?_
  refine jw_aload_n (pc' := 26) rfl rfl ?_
  obtain ⟨g_1, w⟩ := w
  refine jw_cI (st := []) (sa := [vR 8 q0]) okX14_isEmpty rfl rfl rfl rfl rfl rfl (jstp_virtual (sa := []) (st := []) (k := 0) rfl rfl sX14_isEmpty okX14_isEmpty g_1 (one8.k g_1) rfl rfl) w (fun v_4 h_2 _ _ w => ?_)
  refine jw_istore (pc' := 31) (ls' := [some (vR 27 r0), some (vR 6 r1), some (vI x2), some (vR 8 q0), some (vI v_4), none]) rfl (by decide) rfl ?_
  refine jw_iload (pc' := 33) rfl rfl ?_
  refine jw_if_ne (tgt := 53) (pc' := 36) rfl rfl (fun c_5 => ?_) (fun c_5 => ?_)
  · replace w := w.1 c_5
    refine jw_gen (ls' := [some (vR 27 r0), some (vR 6 r1), some (vI x2), none, some (vI v_4), none]) (st' := []) (And.intro (Or.inl rfl) (And.intro (Or.inl rfl) (And.intro (Or.inl rfl) (And.intro (Or.inl rfl) (trivial))))) (trivial) ?_
    exact w_X33_logic_53 w
  · replace w := w.2 c_5
    refine jw_aload_n (pc' := 37) rfl rfl ?_
    refine jw_cI (st := []) (sa := [vR 8 q0]) okX14_isTrue rfl rfl rfl rfl rfl rfl (jstp_virtual (sa := []) (st := []) (k := 0) rfl rfl sX14_isTrue okX14_isTrue g_1 (one8.k g_1) rfl rfl) w (fun v_8 h_6 _ _ w => ?_)
    refine jw_iload_n (pc' := 41) rfl rfl ?_
    refine jw_icmp_ne (tgt := 53) (pc' := 44) rfl rfl (fun c_9 => ?_) (fun c_9 => ?_)
    · replace w := w.1 c_9
      refine jw_gen (ls' := [some (vR 27 r0), some (vR 6 r1), some (vI x2), none, some (vI v_4), none]) (st' := []) (And.intro (Or.inl rfl) (And.intro (Or.inl rfl) (And.intro (Or.inl rfl) (And.intro (Or.inl rfl) (trivial))))) (trivial) ?_
      exact w_X33_logic_53 w
    · replace w := w.2 c_9
      refine jw_aload_n (pc' := 45) rfl rfl ?_
      obtain ⟨g_10, w⟩ := w
      refine jw_getR (pc' := 48) (F := 108) (t' := 98) rfl rfl rfl rfl rfl g_10 ?_
      refine jw_iload_n (pc' := 49) rfl rfl ?_
      obtain ⟨g_11, w⟩ := w
      refine jw_cR (st := []) (sa := [vR 98 (jfr h_6 108 r0), vI x2]) okX14_truth rfl rfl rfl rfl rfl rfl (jstp_virtual (sa := [vI x2]) (st := []) (k := 0) rfl rfl sX14_truth okX14_truth g_11 (one98.k g_11) rfl rfl) w (fun v_14 h_12 _ _ _ w => ?_)
      exact jw_areturn rfl rfl rfl rfl rfl w
def W_X33_logic_15 (D : JD) (d : Nat) (Q : JO → JH → Prop) (r0 : Nat) (r1 : Nat) (s0 : Int32) (h : JH) : Prop :=
  r0 ≠ 0 ∧ ((jfr h 124 r0) ≠ 0 ∧ (v55_at D d (jfr h 124 r0) r1 h (pR D h 8 (fun v_5 h_3 => W_X33_logic_24 D d Q r0 r1 s0 v_5 h_3) (jth Q))))
theorem w_X33_logic_15 {D : JD} {d : Nat} {Q : JO → JH → Prop} {r0 : Nat} {r1 : Nat} {s0 : Int32} {h : JH} (w : W_X33_logic_15 D d Q r0 r1 s0 h) : JW D (d + 1) mX33_logic 15 [some (vR 27 r0), some (vR 6 r1), none, none, none, none] [vI s0] h Q := by
  unfold W_X33_logic_15 at w
  refine jw_istore_n (pc' := 16) (ls' := [some (vR 27 r0), some (vR 6 r1), some (vI s0), none, none, none]) rfl (by decide) rfl ?_
  refine jw_aload_n (pc' := 17) rfl rfl ?_
  obtain ⟨g_1, w⟩ := w
  refine jw_getR (pc' := 20) (F := 124) (t' := 55) rfl rfl rfl rfl rfl g_1 ?_
  refine jw_aload_n (pc' := 21) rfl rfl ?_
  obtain ⟨g_2, w⟩ := w
  refine JW.inv (fun hI => JW.oks (fun ho => ?_))
  have hkd := und55.k hI (ho (vR 55 (jfr h 124 r0)) (by simp)) g_2
  simp only [List.mem_cons, List.not_mem_nil, or_false] at hkd
  clear ho hI
  rcases hkd with e_6 | e_6 | e_6 | e_6 | e_6 | e_6 | e_6 | e_6 | e_6 | e_6
  · refine jw_gen (ls' := _) (st' := [vR 6 r1, vR 20 (jfr h 124 r0)]) (jgl_rf _ _) (And.intro (Or.inl rfl) (And.intro (Or.inr ⟨_, _, _, rfl, rfl, Or.inr (Or.inr (by rw [e_6]; rfl))⟩) (jgs_rf _ _))) ?_
    refine jw_cR (st := []) (sa := [vR 20 (jfr h 124 r0), vR 6 r1]) okX25_at rfl rfl rfl rfl rfl rfl (jstp_up (sa := [vR 6 r1]) (st := []) rfl (lw_g (jtb_mem (c := 12) (i := 49) rfl) rfl) um28 okX25_at g_2 (fun _ _ => by rw [e_6]; exact ⟨rfl, rfl⟩) rfl rfl) (w.1 e_6) (fun v_5 h_3 _ _ _ w => ?_)
    exact w_X33_logic_24 w
  · refine jw_gen (ls' := _) (st' := [vR 6 r1, vR 21 (jfr h 124 r0)]) (jgl_rf _ _) (And.intro (Or.inl rfl) (And.intro (Or.inr ⟨_, _, _, rfl, rfl, Or.inr (Or.inr (by rw [e_6]; rfl))⟩) (jgs_rf _ _))) ?_
    refine jw_cR (st := []) (sa := [vR 21 (jfr h 124 r0), vR 6 r1]) okX27_at rfl rfl rfl rfl rfl rfl (jstp_up (sa := [vR 6 r1]) (st := []) rfl (lw_g (jtb_mem (c := 12) (i := 49) rfl) rfl) um29 okX27_at g_2 (fun _ _ => by rw [e_6]; exact ⟨rfl, rfl⟩) rfl rfl) (w.2.1 e_6) (fun v_5 h_3 _ _ _ w => ?_)
    exact w_X33_logic_24 w
  · refine jw_gen (ls' := _) (st' := [vR 6 r1, vR 22 (jfr h 124 r0)]) (jgl_rf _ _) (And.intro (Or.inl rfl) (And.intro (Or.inr ⟨_, _, _, rfl, rfl, Or.inr (Or.inr (by rw [e_6]; rfl))⟩) (jgs_rf _ _))) ?_
    refine jw_cR (st := []) (sa := [vR 22 (jfr h 124 r0), vR 6 r1]) okX28_at rfl rfl rfl rfl rfl rfl (jstp_up (sa := [vR 6 r1]) (st := []) rfl (lw_g (jtb_mem (c := 12) (i := 49) rfl) rfl) um30 okX28_at g_2 (fun _ _ => by rw [e_6]; exact ⟨rfl, rfl⟩) rfl rfl) (w.2.2.1 e_6) (fun v_5 h_3 _ _ _ w => ?_)
    exact w_X33_logic_24 w
  · refine jw_gen (ls' := _) (st' := [vR 6 r1, vR 23 (jfr h 124 r0)]) (jgl_rf _ _) (And.intro (Or.inl rfl) (And.intro (Or.inr ⟨_, _, _, rfl, rfl, Or.inr (Or.inr (by rw [e_6]; rfl))⟩) (jgs_rf _ _))) ?_
    refine jw_cR (st := []) (sa := [vR 23 (jfr h 124 r0), vR 6 r1]) okX29_at rfl rfl rfl rfl rfl rfl (jstp_up (sa := [vR 6 r1]) (st := []) rfl (lw_g (jtb_mem (c := 12) (i := 49) rfl) rfl) um31 okX29_at g_2 (fun _ _ => by rw [e_6]; exact ⟨rfl, rfl⟩) rfl rfl) (w.2.2.2.1 e_6) (fun v_5 h_3 _ _ _ w => ?_)
    exact w_X33_logic_24 w
  · refine jw_gen (ls' := _) (st' := [vR 6 r1, vR 24 (jfr h 124 r0)]) (jgl_rf _ _) (And.intro (Or.inl rfl) (And.intro (Or.inr ⟨_, _, _, rfl, rfl, Or.inr (Or.inr (by rw [e_6]; rfl))⟩) (jgs_rf _ _))) ?_
    refine jw_cR (st := []) (sa := [vR 24 (jfr h 124 r0), vR 6 r1]) okX30_at rfl rfl rfl rfl rfl rfl (jstp_up (sa := [vR 6 r1]) (st := []) rfl (lw_g (jtb_mem (c := 12) (i := 49) rfl) rfl) um32 okX30_at g_2 (fun _ _ => by rw [e_6]; exact ⟨rfl, rfl⟩) rfl rfl) (w.2.2.2.2.1 e_6) (fun v_5 h_3 _ _ _ w => ?_)
    exact w_X33_logic_24 w
  · refine jw_gen (ls' := _) (st' := [vR 6 r1, vR 25 (jfr h 124 r0)]) (jgl_rf _ _) (And.intro (Or.inl rfl) (And.intro (Or.inr ⟨_, _, _, rfl, rfl, Or.inr (Or.inr (by rw [e_6]; rfl))⟩) (jgs_rf _ _))) ?_
    refine jw_cR (st := []) (sa := [vR 25 (jfr h 124 r0), vR 6 r1]) okX31_at rfl rfl rfl rfl rfl rfl (jstp_up (sa := [vR 6 r1]) (st := []) rfl (lw_g (jtb_mem (c := 12) (i := 49) rfl) rfl) um33 okX31_at g_2 (fun _ _ => by rw [e_6]; exact ⟨rfl, rfl⟩) rfl rfl) (w.2.2.2.2.2.1 e_6) (fun v_5 h_3 _ _ _ w => ?_)
    exact w_X33_logic_24 w
  · refine jw_gen (ls' := _) (st' := [vR 6 r1, vR 26 (jfr h 124 r0)]) (jgl_rf _ _) (And.intro (Or.inl rfl) (And.intro (Or.inr ⟨_, _, _, rfl, rfl, Or.inr (Or.inr (by rw [e_6]; rfl))⟩) (jgs_rf _ _))) ?_
    refine jw_cR (st := []) (sa := [vR 26 (jfr h 124 r0), vR 6 r1]) okX32_at rfl rfl rfl rfl rfl rfl (jstp_up (sa := [vR 6 r1]) (st := []) rfl (lw_g (jtb_mem (c := 12) (i := 49) rfl) rfl) um34 okX32_at g_2 (fun _ _ => by rw [e_6]; exact ⟨rfl, rfl⟩) rfl rfl) (w.2.2.2.2.2.2.1 e_6) (fun v_5 h_3 _ _ _ w => ?_)
    exact w_X33_logic_24 w
  · refine jw_gen (ls' := _) (st' := [vR 6 r1, vR 27 (jfr h 124 r0)]) (jgl_rf _ _) (And.intro (Or.inl rfl) (And.intro (Or.inr ⟨_, _, _, rfl, rfl, Or.inr (Or.inr (by rw [e_6]; rfl))⟩) (jgs_rf _ _))) ?_
    refine jw_cR (st := []) (sa := [vR 27 (jfr h 124 r0), vR 6 r1]) okX33_at rfl rfl rfl rfl rfl rfl (jstp_up (sa := [vR 6 r1]) (st := []) rfl (lw_g (jtb_mem (c := 12) (i := 49) rfl) rfl) um35 okX33_at g_2 (fun _ _ => by rw [e_6]; exact ⟨rfl, rfl⟩) rfl rfl) (w.2.2.2.2.2.2.2.1 e_6) (fun v_5 h_3 _ _ _ w => ?_)
    exact w_X33_logic_24 w
  · refine jw_gen (ls' := _) (st' := [vR 6 r1, vR 28 (jfr h 124 r0)]) (jgl_rf _ _) (And.intro (Or.inl rfl) (And.intro (Or.inr ⟨_, _, _, rfl, rfl, Or.inr (Or.inr (by rw [e_6]; rfl))⟩) (jgs_rf _ _))) ?_
    refine jw_cR (st := []) (sa := [vR 28 (jfr h 124 r0), vR 6 r1]) okX34_at rfl rfl rfl rfl rfl rfl (jstp_up (sa := [vR 6 r1]) (st := []) rfl (lw_g (jtb_mem (c := 12) (i := 49) rfl) rfl) um36 okX34_at g_2 (fun _ _ => by rw [e_6]; exact ⟨rfl, rfl⟩) rfl rfl) (w.2.2.2.2.2.2.2.2.1 e_6) (fun v_5 h_3 _ _ _ w => ?_)
    exact w_X33_logic_24 w
  · refine jw_gen (ls' := _) (st' := [vR 6 r1, vR 29 (jfr h 124 r0)]) (jgl_rf _ _) (And.intro (Or.inl rfl) (And.intro (Or.inr ⟨_, _, _, rfl, rfl, Or.inr (Or.inr (by rw [e_6]; rfl))⟩) (jgs_rf _ _))) ?_
    refine jw_cR (st := []) (sa := [vR 29 (jfr h 124 r0), vR 6 r1]) okX35_at rfl rfl rfl rfl rfl rfl (jstp_up (sa := [vR 6 r1]) (st := []) rfl (lw_g (jtb_mem (c := 12) (i := 49) rfl) rfl) um37 okX35_at g_2 (fun _ _ => by rw [e_6]; exact ⟨rfl, rfl⟩) rfl rfl) (w.2.2.2.2.2.2.2.2.2 e_6) (fun v_5 h_3 _ _ _ w => ?_)
    exact w_X33_logic_24 w
def W_X33_logic_0 (D : JD) (d : Nat) (Q : JO → JH → Prop) (r0 : Nat) (r1 : Nat) (h : JH) : Prop :=
  r0 ≠ 0 ∧ ((¬ (jfr h 123 r0) = (jcs D 372) → W_X33_logic_15 D d Q r0 r1 (0 : Int32) h) ∧ ((jfr h 123 r0) = (jcs D 372) → W_X33_logic_15 D d Q r0 r1 (1 : Int32) h))
theorem w_X33_logic_0 {D : JD} {d : Nat} {Q : JO → JH → Prop} {r0 : Nat} {r1 : Nat} {h : JH} (w : W_X33_logic_0 D d Q r0 r1 h) : JW D (d + 1) mX33_logic 0 [some (vR 27 r0), some (vR 6 r1), none, none, none, none] [] h Q := by
  unfold W_X33_logic_0 at w
  refine jw_aload_n (pc' := 1) rfl rfl ?_
  obtain ⟨g_1, w⟩ := w
  refine jw_getR (pc' := 4) (F := 123) (t' := 54) rfl rfl rfl rfl rfl g_1 ?_
  refine jw_getsR (pc' := 7) rfl rfl rfl rfl ?_
  refine jw_acmp_ne (tgt := 14) (pc' := 10) rfl rfl (fun c_2 => ?_) (fun c_2 => ?_)
  · replace w := w.1 c_2
    refine jw_iconst (pc' := 15) (x := (0 : Int32)) rfl rfl ?_
    exact w_X33_logic_15 w
  · replace w := w.2 c_2
    refine jw_iconst (pc' := 11) (x := (1 : Int32)) rfl rfl ?_
    refine jw_goto (pc' := 15) rfl rfl ?_
    exact w_X33_logic_15 w
def T_X33_logic (D : JD) (d : Nat) (Q : JO → JH → Prop) (r0 : Nat) (r1 : Nat) (h : JH) : Prop := W_X33_logic_0 D d Q r0 r1 h
theorem t_X33_logic {D : JD} {d : Nat} {Q : JO → JH → Prop} {r0 : Nat} {r1 : Nat} {h : JH} (w : T_X33_logic D d Q r0 r1 h) : cX33_logic D (d + 1) r0 r1 h Q := by
  unfold T_X33_logic at w
  unfold cX33_logic
  exact w_X33_logic_0 w
def W_X33_times_33 (D : JD) (d : Nat) (Q : JO → JH → Prop) (r0 : Nat) (y1 : Int64) (y3 : Int64) (h : JH) : Prop :=
  r0 ≠ 0 ∧ ((jfr h 108 r0) ≠ 0 ∧ (cX14_number D d (jfr h 108 r0) (y1 * y3) h (pR D h 8 (fun v_5 h_3 => Q (.inl (some (vR 8 v_5))) h_3) (jth Q))))
theorem w_X33_times_33 {D : JD} {d : Nat} {Q : JO → JH → Prop} {r0 : Nat} {y1 : Int64} {y3 : Int64} {h : JH} (w : W_X33_times_33 D d Q r0 y1 y3 h) : JW D (d + 1) mX33_times 33 [some (vR 27 r0), some (vL y1), none, some (vL y3), none, none, none] [] h Q := by
  unfold W_X33_times_33 at w
  refine jw_aload_n (pc' := 34) rfl rfl ?_
  obtain ⟨g_1, w⟩ := w
  refine jw_getR (pc' := 37) (F := 108) (t' := 98) rfl rfl rfl rfl rfl g_1 ?_
  refine jw_lload_n (pc' := 38) rfl rfl ?_
  refine jw_lload_n (pc' := 39) rfl rfl ?_
  refine jw_lmul (pc' := 40) rfl ?_
  obtain ⟨g_2, w⟩ := w
  refine jw_cR (st := []) (sa := [vR 98 (jfr h 108 r0), vL (y1 * y3)]) okX14_number rfl rfl rfl rfl rfl rfl (jstp_virtual (sa := [vL (y1 * y3)]) (st := []) (k := 0) rfl rfl sX14_number okX14_number g_2 (one98.k g_2) rfl rfl) w (fun v_5 h_3 _ _ _ w => ?_)
  exact jw_areturn rfl rfl rfl rfl rfl w
def W_X33_times_0 (D : JD) (d : Nat) (Q : JO → JH → Prop) (r0 : Nat) (y1 : Int64) (y3 : Int64) (h : JH) : Prop :=
  cJ15_abs D d y1 h (pL D h (fun v_2 h_1 => ((lg_cmp v_2 (0 : Int64)) = 0 → W_X33_times_33 D d Q r0 y1 y3 h_1) ∧ (¬ (lg_cmp v_2 (0 : Int64)) = 0 → cJ15_abs D d y3 h_1 (pL D h_1 (fun v_5 h_4 => ¬ v_2 = 0 ∧ (((lg_cmp v_5 ((9007199254740991 : Int64) / v_2)) ≤ 0 → W_X33_times_33 D d Q r0 y1 y3 h_4) ∧ (¬ (lg_cmp v_5 ((9007199254740991 : Int64) / v_2)) ≤ 0 → cX1_fault D d (jcs D 191) h_4 (pR D h_4 9 (fun v_10 h_8 => v_10 ≠ 0 ∧ (Q (.inr v_10) h_8)) (jth Q))))) (jth Q)))) (jth Q))
theorem w_X33_times_0 {D : JD} {d : Nat} {Q : JO → JH → Prop} {r0 : Nat} {y1 : Int64} {y3 : Int64} {h : JH} (w : W_X33_times_0 D d Q r0 y1 y3 h) : JW D (d + 1) mX33_times 0 [some (vR 27 r0), some (vL y1), none, some (vL y3), none, none, none] [] h Q := by
  unfold W_X33_times_0 at w
  refine jw_lload_n (pc' := 1) rfl rfl ?_
  refine jw_cL (st := []) (sa := [vL y1]) okJ15_abs rfl rfl rfl rfl rfl rfl (jstp_static (sa := [vL y1]) (st := []) rfl rfl sJ15_abs okJ15_abs rfl rfl) w (fun v_2 h_1 _ _ w => ?_)
  refine jw_lstore (pc' := 6) (ls' := [some (vR 27 r0), some (vL y1), none, some (vL y3), none, some (vL v_2), none]) rfl (by decide) rfl ?_
  refine jw_lload (pc' := 8) rfl rfl ?_
  refine jw_lconst (pc' := 9) (x := (0 : Int64)) rfl rfl ?_
  refine jw_lcmp (pc' := 10) rfl ?_
  refine jw_if_eq (tgt := 33) (pc' := 13) rfl rfl (fun c_3 => ?_) (fun c_3 => ?_)
  · replace w := w.1 c_3
    refine jw_gen (ls' := [some (vR 27 r0), some (vL y1), none, some (vL y3), none, none, none]) (st' := []) (And.intro (Or.inl rfl) (And.intro (Or.inl rfl) (And.intro (Or.inl rfl) (trivial)))) (trivial) ?_
    exact w_X33_times_33 w
  · replace w := w.2 c_3
    refine jw_lload_n (pc' := 14) rfl rfl ?_
    refine jw_cL (st := []) (sa := [vL y3]) okJ15_abs rfl rfl rfl rfl rfl rfl (jstp_static (sa := [vL y3]) (st := []) rfl rfl sJ15_abs okJ15_abs rfl rfl) w (fun v_5 h_4 _ _ w => ?_)
    refine jw_ldc2 (pc' := 20) (v := (9007199254740991 : Int64)) rfl rfl ?_
    refine jw_lload (pc' := 22) rfl rfl ?_
    obtain ⟨g_6, w⟩ := w
    refine jw_ldiv (pc' := 23) rfl g_6 ?_
    refine jw_lcmp (pc' := 24) rfl ?_
    refine jw_if_le (tgt := 33) (pc' := 27) rfl rfl (fun c_7 => ?_) (fun c_7 => ?_)
    · replace w := w.1 c_7
      refine jw_gen (ls' := [some (vR 27 r0), some (vL y1), none, some (vL y3), none, none, none]) (st' := []) (And.intro (Or.inl rfl) (And.intro (Or.inl rfl) (And.intro (Or.inl rfl) (trivial)))) (trivial) ?_
      exact w_X33_times_33 w
    · replace w := w.2 c_7
      refine jw_ldcS (pc' := 29) rfl rfl rfl rfl ?_
      refine jw_cR (st := []) (sa := [vR 51 (jcs D 191)]) okX1_fault rfl rfl rfl rfl rfl rfl (jstp_static (sa := [vR 51 (jcs D 191)]) (st := []) rfl rfl sX1_fault okX1_fault rfl rfl) w (fun v_10 h_8 _ _ _ w => ?_)
      obtain ⟨g_11, w⟩ := w
      exact jw_athrow rfl rfl g_11 w
def T_X33_times (D : JD) (d : Nat) (Q : JO → JH → Prop) (r0 : Nat) (y1 : Int64) (y3 : Int64) (h : JH) : Prop := W_X33_times_0 D d Q r0 y1 y3 h
theorem t_X33_times {D : JD} {d : Nat} {Q : JO → JH → Prop} {r0 : Nat} {y1 : Int64} {y3 : Int64} {h : JH} (w : T_X33_times D d Q r0 y1 y3 h) : cX33_times D (d + 1) r0 y1 y3 h Q := by
  unfold T_X33_times at w
  unfold cX33_times
  exact w_X33_times_0 w
def W_X33_divisor_0 (D : JD) (d : Nat) (Q : JO → JH → Prop) (r0 : Nat) (h : JH) : Prop :=
  r0 ≠ 0 ∧ (cX14_number_2 D d r0 h (pL D h (fun v_3 h_2 => (¬ (lg_cmp v_3 (0 : Int64)) = 0 → cX14_number_2 D d r0 h_2 (pL D h_2 (fun v_6 h_5 => Q (.inl (some (vL v_6))) h_5) (jth Q))) ∧ ((lg_cmp v_3 (0 : Int64)) = 0 → cX1_fault D d (jcs D 192) h_2 (pR D h_2 9 (fun v_9 h_7 => v_9 ≠ 0 ∧ (Q (.inr v_9) h_7)) (jth Q)))) (jth Q)))
theorem w_X33_divisor_0 {D : JD} {d : Nat} {Q : JO → JH → Prop} {r0 : Nat} {h : JH} (w : W_X33_divisor_0 D d Q r0 h) : JW D (d + 1) mX33_divisor 0 [some (vR 8 r0)] [] h Q := by
  unfold W_X33_divisor_0 at w
  refine jw_aload_n (pc' := 1) rfl rfl ?_
  obtain ⟨g_1, w⟩ := w
  refine jw_cL (st := []) (sa := [vR 8 r0]) okX14_number_2 rfl rfl rfl rfl rfl rfl (jstp_virtual (sa := []) (st := []) (k := 0) rfl rfl sX14_number_2 okX14_number_2 g_1 (one8.k g_1) rfl rfl) w (fun v_3 h_2 _ _ w => ?_)
  refine jw_lconst (pc' := 5) (x := (0 : Int64)) rfl rfl ?_
  refine jw_lcmp (pc' := 6) rfl ?_
  refine jw_if_ne (tgt := 15) (pc' := 9) rfl rfl (fun c_4 => ?_) (fun c_4 => ?_)
  · replace w := w.1 c_4
    refine jw_aload_n (pc' := 16) rfl rfl ?_
    refine jw_cL (st := []) (sa := [vR 8 r0]) okX14_number_2 rfl rfl rfl rfl rfl rfl (jstp_virtual (sa := []) (st := []) (k := 0) rfl rfl sX14_number_2 okX14_number_2 g_1 (one8.k g_1) rfl rfl) w (fun v_6 h_5 _ _ w => ?_)
    exact jw_lreturn rfl rfl w
  · replace w := w.2 c_4
    refine jw_ldcS (pc' := 11) rfl rfl rfl rfl ?_
    refine jw_cR (st := []) (sa := [vR 51 (jcs D 192)]) okX1_fault rfl rfl rfl rfl rfl rfl (jstp_static (sa := [vR 51 (jcs D 192)]) (st := []) rfl rfl sX1_fault okX1_fault rfl rfl) w (fun v_9 h_7 _ _ _ w => ?_)
    obtain ⟨g_10, w⟩ := w
    exact jw_athrow rfl rfl g_10 w
def T_X33_divisor (D : JD) (d : Nat) (Q : JO → JH → Prop) (r0 : Nat) (h : JH) : Prop := W_X33_divisor_0 D d Q r0 h
theorem t_X33_divisor {D : JD} {d : Nat} {Q : JO → JH → Prop} {r0 : Nat} {h : JH} (w : T_X33_divisor D d Q r0 h) : cX33_divisor D (d + 1) r0 h Q := by
  unfold T_X33_divisor at w
  unfold cX33_divisor
  exact w_X33_divisor_0 w
def W_X33_joined_0 (D : JD) (d : Nat) (Q : JO → JH → Prop) (r0 : Nat) (r1 : Nat) (r2 : Nat) (h : JH) : Prop :=
  r1 ≠ 0 ∧ (cX14_size D d r1 h (pI D h (fun v_4 h_2 => r2 ≠ 0 ∧ (cX14_size D d r2 h_2 (pI D h_2 (fun v_8 h_6 => ((v_4 + v_8) ≤ (40 : Int32) → r0 ≠ 0 ∧ ((jfr h_6 108 r0) ≠ 0 ∧ (cX14_join D d (jfr h_6 108 r0) r1 r2 h_6 (pR D h_6 8 (fun v_14 h_12 => Q (.inl (some (vR 8 v_14))) h_12) (jth Q))))) ∧ (¬ (v_4 + v_8) ≤ (40 : Int32) → cX1_fault D d (jcs D 193) h_6 (pR D h_6 9 (fun v_17 h_15 => v_17 ≠ 0 ∧ (Q (.inr v_17) h_15)) (jth Q)))) (jth Q)))) (jth Q)))
theorem w_X33_joined_0 {D : JD} {d : Nat} {Q : JO → JH → Prop} {r0 : Nat} {r1 : Nat} {r2 : Nat} {h : JH} (w : W_X33_joined_0 D d Q r0 r1 r2 h) : JW D (d + 1) mX33_joined 0 [some (vR 27 r0), some (vR 8 r1), some (vR 8 r2)] [] h Q := by
  unfold W_X33_joined_0 at w
  refine jw_aload_n (pc' := 1) rfl rfl ?_
  obtain ⟨g_1, w⟩ := w
  refine jw_cI (st := []) (sa := [vR 8 r1]) okX14_size rfl rfl rfl rfl rfl rfl (jstp_virtual (sa := []) (st := []) (k := 0) rfl rfl sX14_size okX14_size g_1 (one8.k g_1) rfl rfl) w (fun v_4 h_2 _ _ w => ?_)
  refine jw_aload_n (pc' := 5) rfl rfl ?_
  obtain ⟨g_5, w⟩ := w
  refine jw_cI (st := [vI v_4]) (sa := [vR 8 r2]) okX14_size rfl rfl rfl rfl rfl rfl (jstp_virtual (sa := []) (st := [vI v_4]) (k := 0) rfl rfl sX14_size okX14_size g_5 (one8.k g_5) rfl rfl) w (fun v_8 h_6 _ _ w => ?_)
  refine jw_iadd (pc' := 9) rfl ?_
  refine jw_bipush (pc' := 11) (x := (40 : Int32)) rfl rfl ?_
  refine jw_icmp_le (tgt := 20) (pc' := 14) rfl rfl (fun c_9 => ?_) (fun c_9 => ?_)
  · replace w := w.1 c_9
    refine jw_aload_n (pc' := 21) rfl rfl ?_
    obtain ⟨g_10, w⟩ := w
    refine jw_getR (pc' := 24) (F := 108) (t' := 98) rfl rfl rfl rfl rfl g_10 ?_
    refine jw_aload_n (pc' := 25) rfl rfl ?_
    refine jw_aload_n (pc' := 26) rfl rfl ?_
    obtain ⟨g_11, w⟩ := w
    refine jw_cR (st := []) (sa := [vR 98 (jfr h_6 108 r0), vR 8 r1, vR 8 r2]) okX14_join rfl rfl rfl rfl rfl rfl (jstp_virtual (sa := [vR 8 r1, vR 8 r2]) (st := []) (k := 0) rfl rfl sX14_join okX14_join g_11 (one98.k g_11) rfl rfl) w (fun v_14 h_12 _ _ _ w => ?_)
    exact jw_areturn rfl rfl rfl rfl rfl w
  · replace w := w.2 c_9
    refine jw_ldcS (pc' := 16) rfl rfl rfl rfl ?_
    refine jw_cR (st := []) (sa := [vR 51 (jcs D 193)]) okX1_fault rfl rfl rfl rfl rfl rfl (jstp_static (sa := [vR 51 (jcs D 193)]) (st := []) rfl rfl sX1_fault okX1_fault rfl rfl) w (fun v_17 h_15 _ _ _ w => ?_)
    obtain ⟨g_18, w⟩ := w
    exact jw_athrow rfl rfl g_18 w
def T_X33_joined (D : JD) (d : Nat) (Q : JO → JH → Prop) (r0 : Nat) (r1 : Nat) (r2 : Nat) (h : JH) : Prop := W_X33_joined_0 D d Q r0 r1 r2 h
theorem t_X33_joined {D : JD} {d : Nat} {Q : JO → JH → Prop} {r0 : Nat} {r1 : Nat} {r2 : Nat} {h : JH} (w : T_X33_joined D d Q r0 r1 r2 h) : cX33_joined D (d + 1) r0 r1 r2 h Q := by
  unfold T_X33_joined at w
  unfold cX33_joined
  exact w_X33_joined_0 w
def W_X33_matches_146 (D : JD) (d : Nat) (Q : JO → JH → Prop) (s0 : Int32) (h : JH) : Prop :=
  jbo s0 ∧ (Q (.inl (some (vI s0))) h)
theorem w_X33_matches_146 {D : JD} {d : Nat} {Q : JO → JH → Prop} {s0 : Int32} {h : JH} (w : W_X33_matches_146 D d Q s0 h) : JW D (d + 1) mX33_matches 146 [none, none, none, none, none, none] [vI s0] h Q := by
  unfold W_X33_matches_146 at w
  obtain ⟨g_1, w⟩ := w
  exact jw_ireturn rfl rfl (g_1.nr) w
def W_X33_matches_133 (D : JD) (d : Nat) (Q : JO → JH → Prop) (r1 : Nat) (x3 : Int32) (h : JH) : Prop :=
  r1 ≠ 0 ∧ (cX14_size D d r1 h (pI D h (fun v_4 h_2 => (¬ x3 = v_4 → W_X33_matches_146 D d Q (0 : Int32) h_2) ∧ (x3 = v_4 → W_X33_matches_146 D d Q (1 : Int32) h_2)) (jth Q)))
theorem w_X33_matches_133 {D : JD} {d : Nat} {Q : JO → JH → Prop} {r1 : Nat} {x3 : Int32} {h : JH} (w : W_X33_matches_133 D d Q r1 x3 h) : JW D (d + 1) mX33_matches 133 [none, some (vR 8 r1), none, some (vI x3), none, none] [] h Q := by
  unfold W_X33_matches_133 at w
  refine jw_iload_n (pc' := 134) rfl rfl ?_
  refine jw_aload_n (pc' := 135) rfl rfl ?_
  obtain ⟨g_1, w⟩ := w
  refine jw_cI (st := [vI x3]) (sa := [vR 8 r1]) okX14_size rfl rfl rfl rfl rfl rfl (jstp_virtual (sa := []) (st := [vI x3]) (k := 0) rfl rfl sX14_size okX14_size g_1 (one8.k g_1) rfl rfl) w (fun v_4 h_2 _ _ w => ?_)
  refine jw_icmp_ne (tgt := 145) (pc' := 141) rfl rfl (fun c_5 => ?_) (fun c_5 => ?_)
  · replace w := w.1 c_5
    refine jw_iconst (pc' := 146) (x := (0 : Int32)) rfl rfl ?_
    refine jw_gen (ls' := [none, none, none, none, none, none]) (st' := [vI (0 : Int32)]) (trivial) (And.intro (Or.inl rfl) (trivial)) ?_
    exact w_X33_matches_146 w
  · replace w := w.2 c_5
    refine jw_iconst (pc' := 142) (x := (1 : Int32)) rfl rfl ?_
    refine jw_goto (pc' := 146) rfl rfl ?_
    refine jw_gen (ls' := [none, none, none, none, none, none]) (st' := [vI (1 : Int32)]) (trivial) (And.intro (Or.inl rfl) (trivial)) ?_
    exact w_X33_matches_146 w
def W_X33_matches_109 (D : JD) (d : Nat) (Q : JO → JH → Prop) (K109 : Nat → Int32 → JH → Prop) (r1 : Nat) (x3 : Int32) (h : JH) : Prop :=
  r1 ≠ 0 ∧ (cX14_size D d r1 h (pI D h (fun v_4 h_2 => (v_4 ≤ x3 → W_X33_matches_133 D d Q r1 x3 h_2) ∧ (¬ v_4 ≤ x3 → cX14_byteAt D d r1 x3 h_2 (pI D h_2 (fun v_8 h_6 => (¬ v_8 = (37 : Int32) → W_X33_matches_133 D d Q r1 x3 h_6) ∧ (v_8 = (37 : Int32) → K109 r1 (x3 + (1 : Int32)) h_6)) (jth Q)))) (jth Q)))
theorem w_X33_matches_109 {D : JD} {d : Nat} {Q : JO → JH → Prop} {K109 : Nat → Int32 → JH → Prop} {r1 : Nat} {x3 : Int32} {h : JH} (hK109 : ∀ (r1 : Nat) (x3 : Int32) (h : JH), K109 r1 x3 h → JW D (d + 1) mX33_matches 109 [none, some (vR 8 r1), none, some (vI x3), none, none] [] h Q) (w : W_X33_matches_109 D d Q K109 r1 x3 h) : JW D (d + 1) mX33_matches 109 [none, some (vR 8 r1), none, some (vI x3), none, none] [] h Q := by
  unfold W_X33_matches_109 at w
  refine jw_iload_n (pc' := 110) rfl rfl ?_
  refine jw_aload_n (pc' := 111) rfl rfl ?_
  obtain ⟨g_1, w⟩ := w
  refine jw_cI (st := [vI x3]) (sa := [vR 8 r1]) okX14_size rfl rfl rfl rfl rfl rfl (jstp_virtual (sa := []) (st := [vI x3]) (k := 0) rfl rfl sX14_size okX14_size g_1 (one8.k g_1) rfl rfl) w (fun v_4 h_2 _ _ w => ?_)
  refine jw_icmp_ge (tgt := 133) (pc' := 117) rfl rfl (fun c_5 => ?_) (fun c_5 => ?_)
  · replace w := w.1 c_5
    exact w_X33_matches_133 w
  · replace w := w.2 c_5
    refine jw_aload_n (pc' := 118) rfl rfl ?_
    refine jw_iload_n (pc' := 119) rfl rfl ?_
    refine jw_cI (st := []) (sa := [vR 8 r1, vI x3]) okX14_byteAt rfl rfl rfl rfl rfl rfl (jstp_virtual (sa := [vI x3]) (st := []) (k := 0) rfl rfl sX14_byteAt okX14_byteAt g_1 (one8.k g_1) rfl rfl) w (fun v_8 h_6 _ _ w => ?_)
    refine jw_bipush (pc' := 124) (x := (37 : Int32)) rfl rfl ?_
    refine jw_icmp_ne (tgt := 133) (pc' := 127) rfl rfl (fun c_9 => ?_) (fun c_9 => ?_)
    · replace w := w.1 c_9
      exact w_X33_matches_133 w
    · replace w := w.2 c_9
      refine jw_iinc (pc' := 130) (y := x3 + (1 : Int32)) (ls' := [none, some (vR 8 r1), none, some (vI (x3 + (1 : Int32))), none, none]) rfl (by decide) rfl rfl rfl ?_
      refine jw_goto (pc' := 109) rfl rfl ?_
      exact hK109 _ _ _ w
def L_X33_matches_109 (D : JD) (d : Nat) (Q : JO → JH → Prop) : Nat → Nat → Int32 → JH → Prop
  | 0 => fun _ _ _ => False
  | n + 1 => fun r1 x3 h => W_X33_matches_109 D d Q (L_X33_matches_109 D d Q n) r1 x3 h
theorem l_X33_matches_109 {D : JD} {d : Nat} {Q : JO → JH → Prop} : ∀ (n : Nat) (r1 : Nat) (x3 : Int32) (h : JH), L_X33_matches_109 D d Q n r1 x3 h → JW D (d + 1) mX33_matches 109 [none, some (vR 8 r1), none, some (vI x3), none, none] [] h Q := by
  intro n
  induction n with
  | zero => intro _ _ _ w; exact w.elim
  | succ n ih => intro _ _ h w; exact w_X33_matches_109 ih w
def W_X33_matches_88 (D : JD) (d : Nat) (Q : JO → JH → Prop) (K10 : Nat → Nat → Int32 → Int32 → Int32 → Int32 → JH → Prop) (r0 : Nat) (r1 : Nat) (x4 : Int32) (x5 : Int32) (h : JH) : Prop :=
  (x4 < 0 → Q (.inl (some (vI (0 : Int32)))) h) ∧ (¬ x4 < 0 → K10 r0 r1 (x5 + (1 : Int32)) (x4 + (1 : Int32)) x4 (x5 + (1 : Int32)) h)
theorem w_X33_matches_88 {D : JD} {d : Nat} {Q : JO → JH → Prop} {K10 : Nat → Nat → Int32 → Int32 → Int32 → Int32 → JH → Prop} {r0 : Nat} {r1 : Nat} {x4 : Int32} {x5 : Int32} {h : JH} (hK10 : ∀ (r0 : Nat) (r1 : Nat) (x2 : Int32) (x3 : Int32) (x4 : Int32) (x5 : Int32) (h : JH), K10 r0 r1 x2 x3 x4 x5 h → JW D (d + 1) mX33_matches 10 [some (vR 8 r0), some (vR 8 r1), some (vI x2), some (vI x3), some (vI x4), some (vI x5)] [] h Q) (w : W_X33_matches_88 D d Q K10 r0 r1 x4 x5 h) : JW D (d + 1) mX33_matches 88 [some (vR 8 r0), some (vR 8 r1), none, none, some (vI x4), some (vI x5)] [] h Q := by
  unfold W_X33_matches_88 at w
  refine jw_iload (pc' := 90) rfl rfl ?_
  refine jw_if_lt (tgt := 107) (pc' := 93) rfl rfl (fun c_1 => ?_) (fun c_1 => ?_)
  · replace w := w.1 c_1
    refine jw_iconst (pc' := 108) (x := (0 : Int32)) rfl rfl ?_
    exact jw_ireturn rfl rfl (rfl) w
  · replace w := w.2 c_1
    refine jw_iload (pc' := 95) rfl rfl ?_
    refine jw_iconst (pc' := 96) (x := (1 : Int32)) rfl rfl ?_
    refine jw_iadd (pc' := 97) rfl ?_
    refine jw_istore_n (pc' := 98) (ls' := [some (vR 8 r0), some (vR 8 r1), none, some (vI (x4 + (1 : Int32))), some (vI x4), some (vI x5)]) rfl (by decide) rfl ?_
    refine jw_iinc (pc' := 101) (y := x5 + (1 : Int32)) (ls' := [some (vR 8 r0), some (vR 8 r1), none, some (vI (x4 + (1 : Int32))), some (vI x4), some (vI (x5 + (1 : Int32)))]) rfl (by decide) rfl rfl rfl ?_
    refine jw_iload (pc' := 103) rfl rfl ?_
    refine jw_istore_n (pc' := 104) (ls' := [some (vR 8 r0), some (vR 8 r1), some (vI (x5 + (1 : Int32))), some (vI (x4 + (1 : Int32))), some (vI x4), some (vI (x5 + (1 : Int32)))]) rfl (by decide) rfl ?_
    refine jw_goto (pc' := 10) rfl rfl ?_
    exact hK10 _ _ _ _ _ _ _ w
def W_X33_matches_79 (D : JD) (d : Nat) (Q : JO → JH → Prop) (K10 : Nat → Nat → Int32 → Int32 → Int32 → Int32 → JH → Prop) (r0 : Nat) (r1 : Nat) (x2 : Int32) (x3 : Int32) (x4 : Int32) (x5 : Int32) (h : JH) : Prop :=
  K10 r0 r1 (x2 + (1 : Int32)) (x3 + (1 : Int32)) x4 x5 h
theorem w_X33_matches_79 {D : JD} {d : Nat} {Q : JO → JH → Prop} {K10 : Nat → Nat → Int32 → Int32 → Int32 → Int32 → JH → Prop} {r0 : Nat} {r1 : Nat} {x2 : Int32} {x3 : Int32} {x4 : Int32} {x5 : Int32} {h : JH} (hK10 : ∀ (r0 : Nat) (r1 : Nat) (x2 : Int32) (x3 : Int32) (x4 : Int32) (x5 : Int32) (h : JH), K10 r0 r1 x2 x3 x4 x5 h → JW D (d + 1) mX33_matches 10 [some (vR 8 r0), some (vR 8 r1), some (vI x2), some (vI x3), some (vI x4), some (vI x5)] [] h Q) (w : W_X33_matches_79 D d Q K10 r0 r1 x2 x3 x4 x5 h) : JW D (d + 1) mX33_matches 79 [some (vR 8 r0), some (vR 8 r1), some (vI x2), some (vI x3), some (vI x4), some (vI x5)] [] h Q := by
  unfold W_X33_matches_79 at w
  refine jw_iinc (pc' := 82) (y := x2 + (1 : Int32)) (ls' := [some (vR 8 r0), some (vR 8 r1), some (vI (x2 + (1 : Int32))), some (vI x3), some (vI x4), some (vI x5)]) rfl (by decide) rfl rfl rfl ?_
  refine jw_iinc (pc' := 85) (y := x3 + (1 : Int32)) (ls' := [some (vR 8 r0), some (vR 8 r1), some (vI (x2 + (1 : Int32))), some (vI (x3 + (1 : Int32))), some (vI x4), some (vI x5)]) rfl (by decide) rfl rfl rfl ?_
  refine jw_goto (pc' := 10) rfl rfl ?_
  exact hK10 _ _ _ _ _ _ _ w
def W_X33_matches_48 (D : JD) (d : Nat) (Q : JO → JH → Prop) (K10 : Nat → Nat → Int32 → Int32 → Int32 → Int32 → JH → Prop) (r0 : Nat) (r1 : Nat) (x2 : Int32) (x3 : Int32) (x4 : Int32) (x5 : Int32) (h : JH) : Prop :=
  r1 ≠ 0 ∧ (cX14_size D d r1 h (pI D h (fun v_4 h_2 => (v_4 ≤ x3 → W_X33_matches_88 D d Q K10 r0 r1 x4 x5 h_2) ∧ (¬ v_4 ≤ x3 → cX14_byteAt D d r1 x3 h_2 (pI D h_2 (fun v_8 h_6 => (v_8 = (95 : Int32) → W_X33_matches_79 D d Q K10 r0 r1 x2 x3 x4 x5 h_6) ∧ (¬ v_8 = (95 : Int32) → cX14_byteAt D d r1 x3 h_6 (pI D h_6 (fun v_12 h_10 => r0 ≠ 0 ∧ (cX14_byteAt D d r0 x2 h_10 (pI D h_10 (fun v_16 h_14 => (¬ v_12 = v_16 → W_X33_matches_88 D d Q K10 r0 r1 x4 x5 h_14) ∧ (v_12 = v_16 → W_X33_matches_79 D d Q K10 r0 r1 x2 x3 x4 x5 h_14)) (jth Q)))) (jth Q)))) (jth Q)))) (jth Q)))
theorem w_X33_matches_48 {D : JD} {d : Nat} {Q : JO → JH → Prop} {K10 : Nat → Nat → Int32 → Int32 → Int32 → Int32 → JH → Prop} {r0 : Nat} {r1 : Nat} {x2 : Int32} {x3 : Int32} {x4 : Int32} {x5 : Int32} {h : JH} (hK10 : ∀ (r0 : Nat) (r1 : Nat) (x2 : Int32) (x3 : Int32) (x4 : Int32) (x5 : Int32) (h : JH), K10 r0 r1 x2 x3 x4 x5 h → JW D (d + 1) mX33_matches 10 [some (vR 8 r0), some (vR 8 r1), some (vI x2), some (vI x3), some (vI x4), some (vI x5)] [] h Q) (w : W_X33_matches_48 D d Q K10 r0 r1 x2 x3 x4 x5 h) : JW D (d + 1) mX33_matches 48 [some (vR 8 r0), some (vR 8 r1), some (vI x2), some (vI x3), some (vI x4), some (vI x5)] [] h Q := by
  unfold W_X33_matches_48 at w
  refine jw_iload_n (pc' := 49) rfl rfl ?_
  refine jw_aload_n (pc' := 50) rfl rfl ?_
  obtain ⟨g_1, w⟩ := w
  refine jw_cI (st := [vI x3]) (sa := [vR 8 r1]) okX14_size rfl rfl rfl rfl rfl rfl (jstp_virtual (sa := []) (st := [vI x3]) (k := 0) rfl rfl sX14_size okX14_size g_1 (one8.k g_1) rfl rfl) w (fun v_4 h_2 _ _ w => ?_)
  refine jw_icmp_ge (tgt := 88) (pc' := 56) rfl rfl (fun c_5 => ?_) (fun c_5 => ?_)
  · replace w := w.1 c_5
    refine jw_gen (ls' := [some (vR 8 r0), some (vR 8 r1), none, none, some (vI x4), some (vI x5)]) (st' := []) (And.intro (Or.inl rfl) (And.intro (Or.inl rfl) (And.intro (Or.inl rfl) (And.intro (Or.inl rfl) (trivial))))) (trivial) ?_
    exact w_X33_matches_88 hK10 w
  · replace w := w.2 c_5
    refine jw_aload_n (pc' := 57) rfl rfl ?_
    refine jw_iload_n (pc' := 58) rfl rfl ?_
    refine jw_cI (st := []) (sa := [vR 8 r1, vI x3]) okX14_byteAt rfl rfl rfl rfl rfl rfl (jstp_virtual (sa := [vI x3]) (st := []) (k := 0) rfl rfl sX14_byteAt okX14_byteAt g_1 (one8.k g_1) rfl rfl) w (fun v_8 h_6 _ _ w => ?_)
    refine jw_bipush (pc' := 63) (x := (95 : Int32)) rfl rfl ?_
    refine jw_icmp_eq (tgt := 79) (pc' := 66) rfl rfl (fun c_9 => ?_) (fun c_9 => ?_)
    · replace w := w.1 c_9
      exact w_X33_matches_79 hK10 w
    · replace w := w.2 c_9
      refine jw_aload_n (pc' := 67) rfl rfl ?_
      refine jw_iload_n (pc' := 68) rfl rfl ?_
      refine jw_cI (st := []) (sa := [vR 8 r1, vI x3]) okX14_byteAt rfl rfl rfl rfl rfl rfl (jstp_virtual (sa := [vI x3]) (st := []) (k := 0) rfl rfl sX14_byteAt okX14_byteAt g_1 (one8.k g_1) rfl rfl) w (fun v_12 h_10 _ _ w => ?_)
      refine jw_aload_n (pc' := 72) rfl rfl ?_
      refine jw_iload_n (pc' := 73) rfl rfl ?_
      obtain ⟨g_13, w⟩ := w
      refine jw_cI (st := [vI v_12]) (sa := [vR 8 r0, vI x2]) okX14_byteAt rfl rfl rfl rfl rfl rfl (jstp_virtual (sa := [vI x2]) (st := [vI v_12]) (k := 0) rfl rfl sX14_byteAt okX14_byteAt g_13 (one8.k g_13) rfl rfl) w (fun v_16 h_14 _ _ w => ?_)
      refine jw_icmp_ne (tgt := 88) (pc' := 79) rfl rfl (fun c_17 => ?_) (fun c_17 => ?_)
      · replace w := w.1 c_17
        refine jw_gen (ls' := [some (vR 8 r0), some (vR 8 r1), none, none, some (vI x4), some (vI x5)]) (st' := []) (And.intro (Or.inl rfl) (And.intro (Or.inl rfl) (And.intro (Or.inl rfl) (And.intro (Or.inl rfl) (trivial))))) (trivial) ?_
        exact w_X33_matches_88 hK10 w
      · replace w := w.2 c_17
        exact w_X33_matches_79 hK10 w
def W_X33_matches_10 (D : JD) (d : Nat) (Q : JO → JH → Prop) (K10 : Nat → Nat → Int32 → Int32 → Int32 → Int32 → JH → Prop) (r0 : Nat) (r1 : Nat) (x2 : Int32) (x3 : Int32) (x4 : Int32) (x5 : Int32) (h : JH) : Prop :=
  r0 ≠ 0 ∧ (cX14_size D d r0 h (pI D h (fun v_4 h_2 => (v_4 ≤ x2 → ∃ n, L_X33_matches_109 D d Q n r1 x3 h_2) ∧ (¬ v_4 ≤ x2 → r1 ≠ 0 ∧ (cX14_size D d r1 h_2 (pI D h_2 (fun v_9 h_7 => (v_9 ≤ x3 → W_X33_matches_48 D d Q K10 r0 r1 x2 x3 x4 x5 h_7) ∧ (¬ v_9 ≤ x3 → cX14_byteAt D d r1 x3 h_7 (pI D h_7 (fun v_13 h_11 => (¬ v_13 = (37 : Int32) → W_X33_matches_48 D d Q K10 r0 r1 x2 x3 x4 x5 h_11) ∧ (v_13 = (37 : Int32) → K10 r0 r1 x2 (x3 + (1 : Int32)) x3 x2 h_11)) (jth Q)))) (jth Q))))) (jth Q)))
theorem w_X33_matches_10 {D : JD} {d : Nat} {Q : JO → JH → Prop} {K10 : Nat → Nat → Int32 → Int32 → Int32 → Int32 → JH → Prop} {r0 : Nat} {r1 : Nat} {x2 : Int32} {x3 : Int32} {x4 : Int32} {x5 : Int32} {h : JH} (hK10 : ∀ (r0 : Nat) (r1 : Nat) (x2 : Int32) (x3 : Int32) (x4 : Int32) (x5 : Int32) (h : JH), K10 r0 r1 x2 x3 x4 x5 h → JW D (d + 1) mX33_matches 10 [some (vR 8 r0), some (vR 8 r1), some (vI x2), some (vI x3), some (vI x4), some (vI x5)] [] h Q) (w : W_X33_matches_10 D d Q K10 r0 r1 x2 x3 x4 x5 h) : JW D (d + 1) mX33_matches 10 [some (vR 8 r0), some (vR 8 r1), some (vI x2), some (vI x3), some (vI x4), some (vI x5)] [] h Q := by
  unfold W_X33_matches_10 at w
  refine jw_iload_n (pc' := 11) rfl rfl ?_
  refine jw_aload_n (pc' := 12) rfl rfl ?_
  obtain ⟨g_1, w⟩ := w
  refine jw_cI (st := [vI x2]) (sa := [vR 8 r0]) okX14_size rfl rfl rfl rfl rfl rfl (jstp_virtual (sa := []) (st := [vI x2]) (k := 0) rfl rfl sX14_size okX14_size g_1 (one8.k g_1) rfl rfl) w (fun v_4 h_2 _ _ w => ?_)
  refine jw_icmp_ge (tgt := 109) (pc' := 18) rfl rfl (fun c_5 => ?_) (fun c_5 => ?_)
  · replace w := w.1 c_5
    refine jw_gen (ls' := [none, some (vR 8 r1), none, some (vI x3), none, none]) (st' := []) (And.intro (Or.inl rfl) (And.intro (Or.inl rfl) (trivial))) (trivial) ?_
    obtain ⟨n, w⟩ := w
    exact l_X33_matches_109 n _ _ _ w
  · replace w := w.2 c_5
    refine jw_iload_n (pc' := 19) rfl rfl ?_
    refine jw_aload_n (pc' := 20) rfl rfl ?_
    obtain ⟨g_6, w⟩ := w
    refine jw_cI (st := [vI x3]) (sa := [vR 8 r1]) okX14_size rfl rfl rfl rfl rfl rfl (jstp_virtual (sa := []) (st := [vI x3]) (k := 0) rfl rfl sX14_size okX14_size g_6 (one8.k g_6) rfl rfl) w (fun v_9 h_7 _ _ w => ?_)
    refine jw_icmp_ge (tgt := 48) (pc' := 26) rfl rfl (fun c_10 => ?_) (fun c_10 => ?_)
    · replace w := w.1 c_10
      exact w_X33_matches_48 hK10 w
    · replace w := w.2 c_10
      refine jw_aload_n (pc' := 27) rfl rfl ?_
      refine jw_iload_n (pc' := 28) rfl rfl ?_
      refine jw_cI (st := []) (sa := [vR 8 r1, vI x3]) okX14_byteAt rfl rfl rfl rfl rfl rfl (jstp_virtual (sa := [vI x3]) (st := []) (k := 0) rfl rfl sX14_byteAt okX14_byteAt g_6 (one8.k g_6) rfl rfl) w (fun v_13 h_11 _ _ w => ?_)
      refine jw_bipush (pc' := 33) (x := (37 : Int32)) rfl rfl ?_
      refine jw_icmp_ne (tgt := 48) (pc' := 36) rfl rfl (fun c_14 => ?_) (fun c_14 => ?_)
      · replace w := w.1 c_14
        exact w_X33_matches_48 hK10 w
      · replace w := w.2 c_14
        refine jw_iload_n (pc' := 37) rfl rfl ?_
        refine jw_istore (pc' := 39) (ls' := [some (vR 8 r0), some (vR 8 r1), some (vI x2), some (vI x3), some (vI x3), some (vI x5)]) rfl (by decide) rfl ?_
        refine jw_iload_n (pc' := 40) rfl rfl ?_
        refine jw_istore (pc' := 42) (ls' := [some (vR 8 r0), some (vR 8 r1), some (vI x2), some (vI x3), some (vI x3), some (vI x2)]) rfl (by decide) rfl ?_
        refine jw_iinc (pc' := 45) (y := x3 + (1 : Int32)) (ls' := [some (vR 8 r0), some (vR 8 r1), some (vI x2), some (vI (x3 + (1 : Int32))), some (vI x3), some (vI x2)]) rfl (by decide) rfl rfl rfl ?_
        refine jw_goto (pc' := 10) rfl rfl ?_
        exact hK10 _ _ _ _ _ _ _ w
def L_X33_matches_10 (D : JD) (d : Nat) (Q : JO → JH → Prop) : Nat → Nat → Nat → Int32 → Int32 → Int32 → Int32 → JH → Prop
  | 0 => fun _ _ _ _ _ _ _ => False
  | n + 1 => fun r0 r1 x2 x3 x4 x5 h => W_X33_matches_10 D d Q (L_X33_matches_10 D d Q n) r0 r1 x2 x3 x4 x5 h
theorem l_X33_matches_10 {D : JD} {d : Nat} {Q : JO → JH → Prop} : ∀ (n : Nat) (r0 : Nat) (r1 : Nat) (x2 : Int32) (x3 : Int32) (x4 : Int32) (x5 : Int32) (h : JH), L_X33_matches_10 D d Q n r0 r1 x2 x3 x4 x5 h → JW D (d + 1) mX33_matches 10 [some (vR 8 r0), some (vR 8 r1), some (vI x2), some (vI x3), some (vI x4), some (vI x5)] [] h Q := by
  intro n
  induction n with
  | zero => intro _ _ _ _ _ _ _ w; exact w.elim
  | succ n ih => intro _ _ _ _ _ _ h w; exact w_X33_matches_10 ih w
def W_X33_matches_0 (D : JD) (d : Nat) (Q : JO → JH → Prop) (r0 : Nat) (r1 : Nat) (h : JH) : Prop :=
  ∃ n, L_X33_matches_10 D d Q n r0 r1 (0 : Int32) (0 : Int32) (-1 : Int32) (0 : Int32) h
theorem w_X33_matches_0 {D : JD} {d : Nat} {Q : JO → JH → Prop} {r0 : Nat} {r1 : Nat} {h : JH} (w : W_X33_matches_0 D d Q r0 r1 h) : JW D (d + 1) mX33_matches 0 [some (vR 8 r0), some (vR 8 r1), none, none, none, none] [] h Q := by
  unfold W_X33_matches_0 at w
  refine jw_iconst (pc' := 1) (x := (0 : Int32)) rfl rfl ?_
  refine jw_istore_n (pc' := 2) (ls' := [some (vR 8 r0), some (vR 8 r1), some (vI (0 : Int32)), none, none, none]) rfl (by decide) rfl ?_
  refine jw_iconst (pc' := 3) (x := (0 : Int32)) rfl rfl ?_
  refine jw_istore_n (pc' := 4) (ls' := [some (vR 8 r0), some (vR 8 r1), some (vI (0 : Int32)), some (vI (0 : Int32)), none, none]) rfl (by decide) rfl ?_
  refine jw_iconst (pc' := 5) (x := (-1 : Int32)) rfl rfl ?_
  refine jw_istore (pc' := 7) (ls' := [some (vR 8 r0), some (vR 8 r1), some (vI (0 : Int32)), some (vI (0 : Int32)), some (vI (-1 : Int32)), none]) rfl (by decide) rfl ?_
  refine jw_iconst (pc' := 8) (x := (0 : Int32)) rfl rfl ?_
  refine jw_istore (pc' := 10) (ls' := [some (vR 8 r0), some (vR 8 r1), some (vI (0 : Int32)), some (vI (0 : Int32)), some (vI (-1 : Int32)), some (vI (0 : Int32))]) rfl (by decide) rfl ?_
  obtain ⟨n, w⟩ := w
  exact l_X33_matches_10 n _ _ _ _ _ _ _ w
def T_X33_matches (D : JD) (d : Nat) (Q : JO → JH → Prop) (r0 : Nat) (r1 : Nat) (h : JH) : Prop := W_X33_matches_0 D d Q r0 r1 h
theorem t_X33_matches {D : JD} {d : Nat} {Q : JO → JH → Prop} {r0 : Nat} {r1 : Nat} {h : JH} (w : T_X33_matches D d Q r0 r1 h) : cX33_matches D (d + 1) r0 r1 h Q := by
  unfold T_X33_matches at w
  unfold cX33_matches
  exact w_X33_matches_0 w
def W_X34_init_0 (D : JD) (d : Nat) (Q : JO → JH → Prop) (r0 : Nat) (r1 : Nat) (x2 : Int32) (h : JH) : Prop :=
  r0 ≠ 0 ∧ (cX24_init D d r0 h (pV D h (fun h_2 => ∀ h_5 : JH, h_5 = wfr h_2 126 r0 r1 → (jbo x2 ∧ ∀ h_8 : JH, h_8 = wfi h_5 127 r0 x2 → (∀ h_10 : JH, h_10 = wfr h_8 109 r0 (jcs D 357) → (Q (.inl none) h_10)))) (jth Q)))
theorem w_X34_init_0 {D : JD} {d : Nat} {Q : JO → JH → Prop} {r0 : Nat} {r1 : Nat} {x2 : Int32} {h : JH} (w : W_X34_init_0 D d Q r0 r1 x2 h) : JW D (d + 1) mX34_init 0 [some (vR 28 r0), some (vR 55 r1), some (vI x2)] [] h Q := by
  unfold W_X34_init_0 at w
  refine jw_aload_n (pc' := 1) rfl rfl ?_
  obtain ⟨g_1, w⟩ := w
  refine jw_cV (st := []) (sa := [vR 28 r0]) okX24_init rfl rfl rfl rfl rfl rfl (jstp_init (sa := []) (st := []) rfl rfl sX24_init okX24_init (lw_g (jtb_mem (c := 7) (i := 95) rfl) rfl) g_1 rfl rfl) w (fun h_2 _ _ w => ?_)
  refine jw_aload_n (pc' := 5) rfl rfl ?_
  refine jw_aload_n (pc' := 6) rfl rfl ?_
  refine jw_putR' (pc' := 9) (F := 126) rfl rfl rfl (Or.inr rfl) (Or.inr ⟨rfl, rfl⟩) rfl rfl rfl g_1 (fun h_5 e_6 => ?_)
  replace w := w h_5 e_6
  refine jw_aload_n (pc' := 10) rfl rfl ?_
  refine jw_iload_n (pc' := 11) rfl rfl ?_
  obtain ⟨g_7, w⟩ := w
  refine jw_putI' (pc' := 14) (F := 127) rfl rfl rfl (Or.inr rfl) (Or.inr ⟨rfl, rfl⟩) rfl (g_7.nr) (g_7.ft) rfl g_1 (fun h_8 e_9 => ?_)
  replace w := w h_8 e_9
  refine jw_aload_n (pc' := 15) rfl rfl ?_
  refine jw_getsR (pc' := 18) rfl rfl rfl rfl ?_
  refine jw_putR' (pc' := 21) (F := 109) rfl rfl rfl (Or.inr rfl) (Or.inl rfl) rfl rfl rfl g_1 (fun h_10 e_11 => ?_)
  replace w := w h_10 e_11
  exact jw_return rfl rfl w
def T_X34_init (D : JD) (d : Nat) (Q : JO → JH → Prop) (r0 : Nat) (r1 : Nat) (x2 : Int32) (h : JH) : Prop := W_X34_init_0 D d Q r0 r1 x2 h
theorem t_X34_init {D : JD} {d : Nat} {Q : JO → JH → Prop} {r0 : Nat} {r1 : Nat} {x2 : Int32} {h : JH} (w : T_X34_init D d Q r0 r1 x2 h) : cX34_init D (d + 1) r0 r1 x2 h Q := by
  unfold T_X34_init at w
  unfold cX34_init
  exact w_X34_init_0 w
