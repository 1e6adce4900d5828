/-! the parser of the component: which statement it is -/
def stT : List (Int32 × Str × Int32) := [(-1354815177, sStr "commit", 7), (-1352294148, sStr "create", 0), (-1335458389, sStr "delete", 4), (-1183792455, sStr "insert", 2), (-906021636, sStr "select", 5), (-838846263, sStr "update", 3), (-259719452, sStr "rollback", 8), (3092207, sStr "drop", 1), (93616297, sStr "begin", 6)]
def stc (wd : Str) : Int32 := match stT.find? (fun e => e.2.1 == wd) with
  | some e => e.2.2
  | none => -1
theorem stT_h : ∀ e ∈ stT, jhash e.2.1 = e.1 ∧ stc e.2.1 = e.2.2 := by decide +kernel
theorem stT_i : ∀ e ∈ stT, ∀ f ∈ stT, e.1 = f.1 → e = f := by decide +kernel
theorem stc_or (wd : Str) : stc wd = -1 ∨ ∃ e ∈ stT, wd = e.2.1 ∧ stc wd = e.2.2 := by
  cases h : stT.find? (fun e => e.2.1 == wd) with
  | none => left; unfold stc; rw [h]
  | some e =>
    right
    have e1 := List.mem_of_find?_eq_some h
    have e2 : wd = e.2.1 := by
      have := List.find?_some h
      exact (eq_of_beq this).symm
    exact ⟨e, e1, e2, by rw [e2]; exact (stT_h e e1).2⟩
theorem stc_ne {wd w : Str} {H c : Int32} (he : (H, w, c) ∈ stT) (hv : jhash wd = H) (ne : wd ≠ w) : stc wd = -1 := by
  rcases stc_or wd with z | ⟨e, e1, e2, e3⟩
  · exact z
  · exfalso
    have h1 := (stT_h e e1).1
    rw [← e2, hv] at h1
    have := stT_i (H, w, c) he e e1 h1
    exact ne (by rw [e2, ← this])
theorem stc_no {wd : Str} (hv : ∀ e ∈ stT, jhash wd ≠ e.1) : stc wd = -1 := by
  rcases stc_or wd with z | ⟨e, e1, e2, e3⟩
  · exact z
  · exact absurd (by rw [e2]; exact (stT_h e e1).1) (hv e e1)
theorem pIs_one {σ : PS} {w w' : String} (i : pIs σ w = true) (ne : sStr w ≠ sStr w') : pIs σ w' = false := by
  apply Bool.eq_false_iff.mpr
  intro z
  unfold pIs at i z
  rw [Bool.and_eq_true] at i z
  exact ne ((eq_of_beq i.2).symm.trans (eq_of_beq z.2))
section
variable {D : JD} {p s a base : Nat} {src : Str} {h h' h'' h0 h2 : JH} {σ σ' σ'' σ0 σ2 : PS} {ρ ρ' ρ'' ρ0 : Nat → Nat} {n m n' m' n1 m1 : Int} {d c r q w arr N L L' l : Nat}
theorem st_br {q0 j : Nat} {wd w : Str} {H c : Int32} {Q : JO → JH → Prop} (he : (H, w, c) ∈ stT) (hj : j < 345 ∧ jcon j = w) (hv : jhash wd = H) (st : StR h q0 wd) (hd : 2 ≤ d) (go : W_X17_statement_246 D d Q p (stc wd) h) :
    cJ5_equals D d q0 (jcs D j) h (pI D h (fun v_8 h_6 => (v_8 = 0 → W_X17_statement_246 D d Q p (-1) h_6) ∧ (¬ v_8 = 0 → W_X17_statement_246 D d Q p c h_6)) (jth Q)) := by
  refine JW.inv fun hI => ?_
  have kc : StR h (jcs D j) w := by rw [← hj.2]; exact k_const hI hj.1
  refine JW.up (n := 2) (fun z => useI0 (k_equals (d := z) st kc) ?_) hd
  rintro v h1 _ _ ⟨rfl, rfl⟩
  by_cases e : wd = w
  · rw [if_pos e]
    refine ⟨fun z => absurd z (by decide), fun _ => ?_⟩
    rw [e, (stT_h _ he).2] at go
    exact go
  · rw [if_neg e]
    rw [stc_ne he hv e] at go
    exact ⟨fun _ => go, fun z => absurd rfl z⟩
theorem w_st30 {q0 : Nat} {wd : Str} {Q : JO → JH → Prop} (st : StR h q0 wd) (hd : 4 ≤ d) (go : ∀ h', JInv D h' → HS h h' → W_X17_statement_246 D d Q p (stc wd) h') : W_X17_statement_30 D d Q p q0 h := by
  refine ⟨st.1, JW.up (n := 4) (fun z => useI0 (k_hash (d := z) st) ?_) hd⟩
  rintro v h1 hI1 _ ⟨rfl, hs⟩
  have st1 : StR h1 q0 wd := hs.st st
  have g1 := go h1 hI1 hs
  refine ⟨fun z => st_br (w := sStr "commit") (by decide +kernel) ⟨by decide, by decide +kernel⟩ z st1 (by omega) g1, fun z => st_br (w := sStr "create") (by decide +kernel) ⟨by decide, by decide +kernel⟩ z st1 (by omega) g1, fun z => st_br (w := sStr "delete") (by decide +kernel) ⟨by decide, by decide +kernel⟩ z st1 (by omega) g1, fun z => st_br (w := sStr "insert") (by decide +kernel) ⟨by decide, by decide +kernel⟩ z st1 (by omega) g1, fun z => st_br (w := sStr "select") (by decide +kernel) ⟨by decide, by decide +kernel⟩ z st1 (by omega) g1, fun z => st_br (w := sStr "update") (by decide +kernel) ⟨by decide, by decide +kernel⟩ z st1 (by omega) g1, fun z => st_br (w := sStr "rollback") (by decide +kernel) ⟨by decide, by decide +kernel⟩ z st1 (by omega) g1, fun z => st_br (w := sStr "drop") (by decide +kernel) ⟨by decide, by decide +kernel⟩ z st1 (by omega) g1, fun z => st_br (w := sStr "begin") (by decide +kernel) ⟨by decide, by decide +kernel⟩ z st1 (by omega) g1, fun z1 z2 z3 z4 z5 z6 z7 z8 z9 => ?_⟩
  rw [stc_no (wd := wd) fun e he => ?_] at g1
  · exact g1
  · simp only [stT, List.mem_cons, List.not_mem_nil, or_false] at he
    rcases he with rfl | rfl | rfl | rfl | rfl | rfl | rfl | rfl | rfl
    · exact z1
    · exact z2
    · exact z3
    · exact z4
    · exact z5
    · exact z6
    · exact z7
    · exact z8
    · exact z9
/-- the end of a statement, by any rate -/
theorem w_430g {v : Nat} {Q : JO → JH → Prop} (k : PsR D p s a base src h σ ρ) (hd : 8 ≤ d) (hQ : (tkK (psT σ) == 0 || pIs σ ";") = true → Q (.inl (some (vR 57 v))) h)
    (hE : (tkK (psT σ) == 0 || pIs σ ";") = false → ∀ y h', JInv D h' → PErG 0 p s src h h' σ y (tkF (psT σ) + 1) → Q (.inr y) h') : W_X17_statement_430 D d Q p v h := by
  refine ⟨k.1.2.1, useI0 (w_ended k (by omega)) ?_⟩
  rintro v1 h1 _ _ ⟨rfl, rfl⟩
  by_cases e0 : tkK (psT σ) = 0
  · rw [if_pos e0]
    exact ⟨fun _ => hQ (by rw [e0]; rfl), fun z => absurd z (by decide)⟩
  rw [if_neg e0]
  have b0 : (tkK (psT σ) == 0) = false := by simpa using e0
  rw [b0, Bool.false_or] at hQ hE
  refine ⟨fun z => absurd rfl z, fun _ => ⟨k.sg, ?_⟩⟩
  rw [k.1.2.2.1]
  refine useI0 (w_is k ";" (by decide +kernel) (by omega)) ?_
  rintro v2 h2 _ _ ⟨rfl, rfl⟩
  by_cases i2 : pIs σ ";" = true
  · rw [if_pos i2]
    exact ⟨fun _ => hQ i2, fun z => absurd z (by decide)⟩
  rw [if_neg i2]
  refine ⟨fun z => absurd rfl z, fun _ => useR0 (w_broken k (by omega)) ?_⟩
  rintro y3 h3 hI3 _ n3
  exact ⟨n3.1.1, hE (Bool.eq_false_iff.mpr i2) y3 h3 hI3 n3⟩
/-! the specification, by statements -/
theorem stm_create (i : pIs σ "create" = true) : pStm0 true src σ = crS src σ := by unfold pStm0; rw [if_pos i]; rfl
theorem stm_drop (i : pIs σ "drop" = true) : pStm0 true src σ = drS src σ := by
  unfold pStm0
  rw [if_neg (by rw [pIs_one i (by decide +kernel)]; simp), if_pos i]; rfl
theorem stm_insert (i : pIs σ "insert" = true) : pStm0 true src σ = insS src σ := by
  unfold pStm0
  rw [if_neg (by rw [pIs_one i (by decide +kernel)]; simp), if_neg (by rw [pIs_one i (by decide +kernel)]; simp), if_pos i]
  unfold insS
  cases pNext true src σ with
  | error e => rfl
  | ok q =>
    show (pNeed true src "into" q.2 >>= _) = (pNeed true src "into" q.2 >>= _)
    cases pNeed true src "into" q.2 with
    | error e => rfl
    | ok q =>
      show (pName true src q.2 >>= _) = (pName true src q.2 >>= _)
      cases pName true src q.2 with
      | error e => rfl
      | ok nm =>
        show (pTake true src "(" nm.2 >>= _) = (pTake true src "(" nm.2 >>= _)
        cases pTake true src "(" nm.2 with
        | error e => rfl
        | ok b =>
          obtain ⟨b, τ⟩ := b
          cases b with
          | false => rfl
          | true =>
            show (pNames true src 11 [] τ >>= _) >>= _ = (pNames true src 11 [] τ >>= _)
            cases pNames true src 11 [] τ with
            | error e => rfl
            | ok l =>
              show (pNeed true src ")" l.2 >>= _) >>= _ = (pNeed true src ")" l.2 >>= _)
              cases pNeed true src ")" l.2 <;> rfl
theorem stm_update (i : pIs σ "update" = true) : pStm0 true src σ = upS src σ := by
  unfold pStm0
  rw [if_neg (by rw [pIs_one i (by decide +kernel)]; simp), if_neg (by rw [pIs_one i (by decide +kernel)]; simp), if_neg (by rw [pIs_one i (by decide +kernel)]; simp), if_pos i]; rfl
theorem stm_delete (i : pIs σ "delete" = true) : pStm0 true src σ = dlS src σ := by
  unfold pStm0
  rw [if_neg (by rw [pIs_one i (by decide +kernel)]; simp), if_neg (by rw [pIs_one i (by decide +kernel)]; simp), if_neg (by rw [pIs_one i (by decide +kernel)]; simp), if_neg (by rw [pIs_one i (by decide +kernel)]; simp), if_pos i]; rfl
theorem stm_begin (i : pIs σ "begin" = true) : pStm0 true src σ = brS src 5 σ := by
  unfold pStm0
  rw [if_neg (by rw [pIs_one i (by decide +kernel)]; simp), if_neg (by rw [pIs_one i (by decide +kernel)]; simp), if_neg (by rw [pIs_one i (by decide +kernel)]; simp), if_neg (by rw [pIs_one i (by decide +kernel)]; simp), if_neg (by rw [pIs_one i (by decide +kernel)]; simp), if_pos (by rw [i]; rfl), if_pos i]; rfl
theorem stm_commit (i : pIs σ "commit" = true) : pStm0 true src σ = brS src 6 σ := by
  unfold pStm0
  rw [if_neg (by rw [pIs_one i (by decide +kernel)]; simp), if_neg (by rw [pIs_one i (by decide +kernel)]; simp), if_neg (by rw [pIs_one i (by decide +kernel)]; simp), if_neg (by rw [pIs_one i (by decide +kernel)]; simp), if_neg (by rw [pIs_one i (by decide +kernel)]; simp), if_pos (by rw [i]; simp), if_neg (by rw [pIs_one i (by decide +kernel)]; simp), if_pos i]; rfl
theorem stm_rollback (i : pIs σ "rollback" = true) : pStm0 true src σ = brS src 7 σ := by
  unfold pStm0
  rw [if_neg (by rw [pIs_one i (by decide +kernel)]; simp), if_neg (by rw [pIs_one i (by decide +kernel)]; simp), if_neg (by rw [pIs_one i (by decide +kernel)]; simp), if_neg (by rw [pIs_one i (by decide +kernel)]; simp), if_neg (by rw [pIs_one i (by decide +kernel)]; simp), if_pos (by rw [i]; simp), if_neg (by rw [pIs_one i (by decide +kernel)]; simp), if_neg (by rw [pIs_one i (by decide +kernel)]; simp)]; rfl
theorem stm_select (i : pIs σ "select" = true) : pStm0 true src σ = slS src σ := by
  unfold pStm0
  rw [if_neg (by rw [pIs_one i (by decide +kernel)]; simp), if_neg (by rw [pIs_one i (by decide +kernel)]; simp), if_neg (by rw [pIs_one i (by decide +kernel)]; simp), if_neg (by rw [pIs_one i (by decide +kernel)]; simp), if_neg (by rw [pIs_one i (by decide +kernel)]; simp), if_neg (by rw [pIs_one i (by decide +kernel), pIs_one i (by decide +kernel), pIs_one i (by decide +kernel)]; simp)]
  unfold pNeed
  rw [if_pos i]; rfl
theorem stm_none (i : ∀ e ∈ stT, ∀ w : String, sStr w = e.2.1 → pIs σ w = false) : pStm0 true src σ = .error (tkF (psT σ) + 1) := by
  have k : ∀ w : String, (stT.any fun e => e.2.1 == sStr w) = true → pIs σ w = false := fun w hw => by
    obtain ⟨e, h1, h2⟩ := List.any_eq_true.mp hw
    exact i e h1 w (eq_of_beq h2).symm
  unfold pStm0
  rw [if_neg (by rw [k "create" (by decide +kernel)]; simp), if_neg (by rw [k "drop" (by decide +kernel)]; simp), if_neg (by rw [k "insert" (by decide +kernel)]; simp), if_neg (by rw [k "update" (by decide +kernel)]; simp), if_neg (by rw [k "delete" (by decide +kernel)]; simp), if_neg (by rw [k "begin" (by decide +kernel), k "commit" (by decide +kernel), k "rollback" (by decide +kernel)]; simp)]
  unfold pNeed
  rw [if_neg (by rw [k "select" (by decide +kernel)]; simp)]; rfl
/-! what each statement holds -/
theorem crS_k {y : Stm} (e : crS src σ = .ok (y, σ')) : smK y = 0 ∧ smA y = psA σ' ∧ smP y = psP σ' := by
  unfold crS at e
  obtain ⟨q1, _, e⟩ := bnd e
  obtain ⟨q2, _, e⟩ := bnd e
  obtain ⟨q3, _, e⟩ := bnd e
  obtain ⟨q4, _, e⟩ := bnd e
  unfold crL at e
  obtain ⟨q5, _, e⟩ := bnd e
  obtain ⟨q6, _, e⟩ := bnd e
  cases e; exact ⟨rfl, rfl, rfl⟩
theorem drS_k {y : Stm} (e : drS src σ = .ok (y, σ')) : smK y = 1 ∧ smA y = psA σ' ∧ smP y = psP σ' := by
  unfold drS at e
  obtain ⟨q1, _, e⟩ := bnd e
  obtain ⟨q2, _, e⟩ := bnd e
  obtain ⟨q3, _, e⟩ := bnd e
  cases e; exact ⟨rfl, rfl, rfl⟩
theorem inV_k {y : Stm} {nm : Str} {ns : List Str} (e : inV src nm ns σ = .ok (y, σ')) : smK y = 2 ∧ smA y = psA σ' ∧ smP y = psP σ' := by
  unfold inV at e
  obtain ⟨q1, _, e⟩ := bnd e
  unfold irL at e
  obtain ⟨q2, _, e⟩ := bnd e
  cases e; exact ⟨rfl, rfl, rfl⟩
theorem insS_k {y : Stm} (e : insS src σ = .ok (y, σ')) : smK y = 2 ∧ smA y = psA σ' ∧ smP y = psP σ' := by
  unfold insS at e
  obtain ⟨q1, _, e⟩ := bnd e
  obtain ⟨q2, _, e⟩ := bnd e
  obtain ⟨q3, _, e⟩ := bnd e
  obtain ⟨q4, _, e⟩ := bnd e
  split at e
  · unfold inN at e
    obtain ⟨q5, _, e⟩ := bnd e
    obtain ⟨q6, _, e⟩ := bnd e
    exact inV_k e
  · exact inV_k e
theorem upS_k {y : Stm} (e : upS src σ = .ok (y, σ')) : smK y = 3 ∧ smA y = psA σ' ∧ smP y = psP σ' := by
  unfold upS at e
  obtain ⟨q1, _, e⟩ := bnd e
  obtain ⟨q2, _, e⟩ := bnd e
  obtain ⟨q3, _, e⟩ := bnd e
  unfold upL at e
  obtain ⟨q4, _, e⟩ := bnd e
  unfold upW at e
  obtain ⟨q5, _, e⟩ := bnd e
  cases e; exact ⟨rfl, rfl, rfl⟩
theorem dlS_k {y : Stm} (e : dlS src σ = .ok (y, σ')) : smK y = 4 ∧ smA y = psA σ' ∧ smP y = psP σ' := by
  unfold dlS at e
  obtain ⟨q1, _, e⟩ := bnd e
  obtain ⟨q2, _, e⟩ := bnd e
  obtain ⟨q3, _, e⟩ := bnd e
  obtain ⟨q4, _, e⟩ := bnd e
  cases e; exact ⟨rfl, rfl, rfl⟩
theorem brS_k {y : Stm} {kk : Nat} (e : brS src kk σ = .ok (y, σ')) : smK y = kk ∧ smA y = psA σ' ∧ smP y = psP σ' := by
  unfold brS at e
  obtain ⟨q1, _, e⟩ := bnd e
  cases e; exact ⟨rfl, rfl, rfl⟩
theorem slS_k {y : Stm} (e : slS src σ = .ok (y, σ')) : smK y = 8 ∧ smA y = psA σ' ∧ smP y = psP σ' := by
  unfold slS at e
  obtain ⟨q1, _, e⟩ := bnd e
  rw [pSelect_eq] at e
  obtain ⟨q2, _, e⟩ := bnd e
  obtain ⟨q3, _, e⟩ := bnd e
  unfold sl1 at e
  obtain ⟨q4, _, e⟩ := bnd e
  unfold sl2 at e
  obtain ⟨q5, _, e⟩ := bnd e
  unfold sl3 at e
  obtain ⟨q6, _, e⟩ := bnd e
  unfold sl4 at e
  obtain ⟨q7, _, e⟩ := bnd e
  unfold sl5 at e
  obtain ⟨q8, _, e⟩ := bnd e
  unfold sl6 at e
  obtain ⟨q9, _, e⟩ := bnd e
  unfold sl7 at e
  obtain ⟨q10, _, e⟩ := bnd e
  cases e; exact ⟨rfl, rfl, rfl⟩
end
