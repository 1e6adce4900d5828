/-! the component: the value of every tree -/
section
variable {D : JD} {h h' h'' hm h0 h1 h2 h3 hb : JH} {ρ : Nat → Nat} {A : List Nod} {E Ec : TEnv} {d sc r x i n f c q lo hi t : Nat} {M : Nat → Prop} {pv : List Val} {grp : List TRow} {R : TRow} {G : TRow → JH → Prop} {wi : Bool} {z : Ex Val} {w : Val}
theorem agg_ok (C : EvC A E Ec ρ pv grp) (il : i < A.length) (o : ndO (nat_ A i) = 3) (c : ndK (nat_ A i) = 1 ∨ tGather (ndS (nat_ A i)) = true) (ht : tTree A Ec (f + 1) wi i = .ok t) : tGather (ndS (nat_ A i)) = true ∧ Ec.2.2 = true := by
  rw [tTree_eq] at ht
  obtain ⟨ts, hm, t3⟩ := bnd ht
  have tl := mapM_len hm
  obtain ⟨k1, k2⟩ : (ndP (nat_ A i)).length ≤ 8 ∧ (ndK (nat_ A i) = 0 ∨ (ndK (nat_ A i) = 1 ∧ ndP (nat_ A i) = [])) := by
    rcases (C.1 i il).2.2.1 with h | h | h | h | h | h | h | h | h | h | h | h | h
    all_goals first | exact h.2 | (exfalso; have := h.1; omega)
  unfold tNode at t3
  rw [o] at t3
  have t3 : tFun Ec wi (ndS (nat_ A i)) (ndK (nat_ A i) == 1) ts = .ok t := t3
  rw [tFun_agg (c.imp (fun e => by rw [e]; rfl) id) (fun z => by
    have z : ndK (nat_ A i) = 1 := by simpa using z
    rcases k2 with y | y
    · omega
    · rw [y.2] at tl; exact List.length_eq_zero_iff.mp tl)] at t3
  split at t3
  · rename_i hk
    unfold agS at t3
    split at t3
    · rename_i hf
      refine ⟨?_, (Bool.and_eq_true _ _ ▸ hf).1⟩
      rcases c with e | e
      · unfold knA at hk
        rw [if_pos (by rw [e]; rfl)] at hk
        rw [show ndS (nat_ A i) = sStr "count" by simpa using hk]
        decide +kernel
      · exact e
    · cases t3
  · cases t3
/-- one level more, but for aggregates -/
theorem w_evS (C : EvC A E Ec ρ pv grp) (hG : EvG D A ρ sc G) (IH : EVX D A E Ec ρ sc pv grp G f)
    (ha : ∀ i R h d n t wi, i < f + 1 → i < A.length → HB A (n + 1) i → ndO (nat_ A i) = 3 → (ndK (nat_ A i) = 1 ∨ tGather (ndS (nat_ A i)) = true) → EvI D A E Ec ρ sc pv G R h → PlT A E h ρ (f + 1) i → tTree A Ec (f + 1) wi i = .ok t → 2 * n + 21 ≤ d → cX28_at D d (ρ i) sc h (EQ D A E ρ sc pv i R h h (eTree A E pv grp (f + 1) R i))) :
    EVX D A E Ec ρ sc pv grp G (f + 1) := fun i R h d n t wi hi il hb hd S pl ht => by
    obtain ⟨m, rfl⟩ : ∃ m, n = m + 1 := by
      cases n with
      | zero => exact hb.elim
      | succ m => exact ⟨m, rfl⟩
    have nr := S.1 i il
    have k2 := nr.2.1
    have sh := (C.1 i il).2.2.1
    have os : ndO (nat_ A i) ≤ 14 := by
      rcases sh with h | h | h | h | h | h | h | h | h | h | h | h | h
      all_goals (have := h.1; omega)
    have ks : ndO (nat_ A i) = 3 → ndK (nat_ A i) = 0 ∨ ndK (nat_ A i) = 1 := fun o => by
      rcases sh with h | h | h | h | h | h | h | h | h | h | h | h | h
      all_goals first | exact h.2.2.imp id And.left | (exfalso; have := h.1; omega)
    have nkO : ∀ o, ndO (nat_ A i) = o → nkd (nat_ A i) = (match o with | 0 => 25 | 1 => 20 | 2 => 24 | 3 => if ndK (nat_ A i) = 1 ∨ tGather (ndS (nat_ A i)) = true then 22 else 23 | 4 => 21 | 5 => 29 | 7 => 29 | 8 => 28 | 12 => 26 | 13 => 26 | _ => 27) := fun o z => by
      unfold nkd
      rw [z]
      rfl
    have go : ∀ z, nkd (nat_ A i) = z → jkd h (ρ i) = z := fun z y => k2.trans y
    rcases (show ndO (nat_ A i) = 0 ∨ ndO (nat_ A i) = 1 ∨ ndO (nat_ A i) = 2 ∨ ndO (nat_ A i) = 3 ∨ ndO (nat_ A i) = 4 ∨ (ndO (nat_ A i) = 5 ∨ ndO (nat_ A i) = 7) ∨ ndO (nat_ A i) = 8 ∨ (ndO (nat_ A i) = 12 ∨ ndO (nat_ A i) = 13) ∨ (ndO (nat_ A i) = 6 ∨ ndO (nat_ A i) = 9 ∨ ndO (nat_ A i) = 10 ∨ ndO (nat_ A i) = 11 ∨ ndO (nat_ A i) = 14) by omega) with o | o | o | o | o | o | o | o | o
    · have kd := go 25 (nkO _ o)
      refine ⟨fun z => ?_, fun z => ?_, fun z => ?_, fun z => ?_, fun z => ?_, fun _ => ev_lit C il o S (by omega), fun z => ?_, fun z => ?_, fun z => ?_, fun z => ?_⟩
      all_goals (rw [kd] at z; cases z)
    · have kd := go 20 (nkO _ o)
      refine ⟨fun _ => ev_par C il o S ht (by omega), fun z => ?_, fun z => ?_, fun z => ?_, fun z => ?_, fun z => ?_, fun z => ?_, fun z => ?_, fun z => ?_, fun z => ?_⟩
      all_goals (rw [kd] at z; cases z)
    · have kd := go 24 (nkO _ o)
      refine ⟨fun z => ?_, fun z => ?_, fun z => ?_, fun z => ?_, fun _ => ev_col C il o S pl (by omega), fun z => ?_, fun z => ?_, fun z => ?_, fun z => ?_, fun z => ?_⟩
      all_goals (rw [kd] at z; cases z)
    · by_cases c : ndK (nat_ A i) = 1 ∨ tGather (ndS (nat_ A i)) = true
      · have kd := go 22 ((nkO _ o).trans (if_pos c))
        refine ⟨fun z => ?_, fun z => ?_, fun _ => ha i R h d m t wi hi il hb o c S pl ht (by omega), fun z => ?_, fun z => ?_, fun z => ?_, fun z => ?_, fun z => ?_, fun z => ?_, fun z => ?_⟩
        all_goals (rw [kd] at z; cases z)
      · have kd := go 23 ((nkO _ o).trans (if_neg c))
        refine ⟨fun z => ?_, fun z => ?_, fun z => ?_, fun _ => ev_call C hG IH hi il hb o ?_ ?_ S pl ht (by omega), fun z => ?_, fun z => ?_, fun z => ?_, fun z => ?_, fun z => ?_, fun z => ?_⟩
        all_goals first | (rw [kd] at z; cases z) | skip
        · rcases ks o with y | y
          · exact y
          · exact absurd (Or.inl y) c
        · exact Bool.eq_false_iff.mpr fun y => c (Or.inr y)
    · have kd := go 21 (nkO _ o)
      refine ⟨fun z => ?_, fun _ => ev_case C hG IH hi il hb o S pl ht (by omega), fun z => ?_, fun z => ?_, fun z => ?_, fun z => ?_, fun z => ?_, fun z => ?_, fun z => ?_, fun z => ?_⟩
      all_goals (rw [kd] at z; cases z)
    · have kd := go 29 (by rcases o with o | o <;> exact nkO _ o)
      refine ⟨fun z => ?_, fun z => ?_, fun z => ?_, fun z => ?_, fun z => ?_, fun z => ?_, fun z => ?_, fun z => ?_, fun z => ?_, fun _ => ev_with C hG IH hi il hb o S pl ht (by omega)⟩
      all_goals (rw [kd] at z; cases z)
    · have kd := go 28 (nkO _ o)
      refine ⟨fun z => ?_, fun z => ?_, fun z => ?_, fun z => ?_, fun z => ?_, fun z => ?_, fun z => ?_, fun z => ?_, fun _ => ev_miss C hG IH hi il hb o S pl ht (by omega), fun z => ?_⟩
      all_goals (rw [kd] at z; cases z)
    · have kd := go 26 (by rcases o with o | o <;> exact nkO _ o)
      refine ⟨fun z => ?_, fun z => ?_, fun z => ?_, fun z => ?_, fun z => ?_, fun z => ?_, fun _ => ev_turn C hG IH hi il hb o S pl ht (by omega), fun z => ?_, fun z => ?_, fun z => ?_⟩
      all_goals (rw [kd] at z; cases z)
    · have kd := go 27 (by rcases o with o | o | o | o | o <;> exact nkO _ o)
      refine ⟨fun z => ?_, fun z => ?_, fun z => ?_, fun z => ?_, fun z => ?_, fun z => ?_, fun z => ?_, fun _ => ev_pair C hG IH hi il hb o S pl ht (by omega), fun z => ?_, fun z => ?_⟩
      all_goals (rw [kd] at z; cases z)
/-- trees without aggregates -/
theorem w_eval0 (C : EvC A E Ec ρ pv grp) (hf : Ec.2.2 = false) (hG : EvG D A ρ sc G) : ∀ f, EVX D A E Ec ρ sc pv grp G f
  | 0 => fun i R h d n t wi hi => absurd hi (Nat.not_lt_zero _)
  | f + 1 => w_evS C hG (w_eval0 C hf hG f) fun i R h d n t wi _ il _ o c _ _ ht _ => by
    have := (agg_ok C il o c ht).2
    rw [hf] at this
    cases this
/-- trees of a group -/
theorem w_eval1 (C : EvC A E Ec ρ pv grp) : ∀ f, EVX D A E Ec ρ sc pv grp (GF D E sc grp) f
  | 0 => fun i R h d n t wi hi => absurd hi (Nat.not_lt_zero _)
  | f + 1 => w_evS C evGF (w_eval1 C f) fun i R h d n t wi hi il hb o c S pl ht hd => ev_agg C (w_eval0 C.in0 rfl evG0 f) hi il hb o (agg_ok C il o c ht).1 S pl ht hd
end
