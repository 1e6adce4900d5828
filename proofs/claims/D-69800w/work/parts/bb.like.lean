/-! LIKE: going back to the latest % alone is enough -/
theorem vLike_pc {c : Int32} {s P : Str} : vLike (c :: s) (37 :: P) = (vLike (c :: s) P || vLike s (37 :: P)) := by
  conv => lhs; unfold vLike
  rw [if_pos (by decide)]
theorem vLike_pn {P : Str} : vLike [] (37 :: P) = vLike [] P := by
  conv => lhs; unfold vLike
  simp
theorem vLike_c {c q : Int32} {s P : Str} (h : q ≠ 37) : vLike (c :: s) (q :: P) = ((q == 95 || q == c) && vLike s P) := by
  conv => lhs; unfold vLike
  rw [if_neg (by simpa using h)]
/-- more before it does no harm to % -/
theorem vLike_suf {P : Str} : ∀ (n : Nat) (u : Str), vLike (u.drop n) (37 :: P) = true → vLike u (37 :: P) = true
  | 0, u, h => h
  | n + 1, [], h => h
  | n + 1, c :: u, h => by
    rw [vLike_pc, vLike_suf n u h, Bool.or_true]
/-- % stands for any beginning -/
theorem vLike_any {P : Str} : ∀ (u : Str), vLike u (37 :: P) = true → ∃ n, n ≤ u.length ∧ vLike (u.drop n) P = true
  | [], h => ⟨0, Nat.le_refl _, by rw [vLike_pn] at h; exact h⟩
  | c :: u, h => by
    rw [vLike_pc, Bool.or_eq_true] at h
    rcases h with h | h
    · exact ⟨0, Nat.zero_le _, h⟩
    · obtain ⟨n, n1, n2⟩ := vLike_any u h
      exact ⟨n + 1, by simp; omega, n2⟩
theorem vLike_put {P : Str} {u : Str} (h : vLike u P = true) : vLike u (37 :: P) = true := by
  cases u with
  | nil => rw [vLike_pn]; exact h
  | cons c u => rw [vLike_pc, h, Bool.true_or]
/-- signs without % go one by one -/
theorem vLike_pre {P : Str} : ∀ (pre t : Str), (∀ x ∈ pre, x ≠ 37) → vLike t (pre ++ P) = true → pre.length ≤ t.length ∧ vLike (t.drop pre.length) P = true
  | [], t, _, h => ⟨Nat.zero_le _, h⟩
  | x :: pre, [], hn, h => by
    exfalso
    have hx := hn x List.mem_cons_self
    rw [List.cons_append] at h
    unfold vLike at h
    rw [show (x == 37) = false by simpa using hx] at h
    cases h
  | x :: pre, c :: t, hn, h => by
    rw [List.cons_append, vLike_c (hn x List.mem_cons_self), Bool.and_eq_true] at h
    obtain ⟨a, b⟩ := vLike_pre pre t (fun y hy => hn y (List.mem_cons_of_mem _ hy)) h.2
    exact ⟨by simp; omega, b⟩
theorem vLike_nil : ∀ q : Str, vLike [] q = q.all (· == 37)
  | [] => by unfold vLike; rfl
  | x :: q => by
    unfold vLike
    rw [List.all_cons, vLike_nil q]
/-- what is known while it goes on: the rest of the text, the rest of the signs, and the latest %: the text there, the signs behind it -/
def LkI (a p s q : Str) : Option (Str × Str) → Prop
  | none => vLike a p = vLike s q
  | some (t, S) => vLike a p = vLike t (37 :: S) ∧ ∃ pre, S = pre ++ q ∧ (∀ x ∈ pre, x ≠ 37) ∧ pre.length ≤ t.length ∧ s = t.drop pre.length ∧ vLike t S = vLike s q
theorem LkI.end {a p q : Str} {o : Option (Str × Str)} (k : LkI a p [] q o) : vLike a p = q.all (· == 37) := by
  rw [← vLike_nil]
  cases o with
  | none => exact k
  | some ts =>
    obtain ⟨t, S⟩ := ts
    obtain ⟨k1, pre, k2, k3, k4, k5, k6⟩ := k
    rw [k1]
    cases hq : vLike [] q with
    | true =>
      rw [hq] at k6
      exact vLike_put k6
    | false =>
      apply Bool.eq_false_iff.mpr
      intro z
      obtain ⟨n, n1, n2⟩ := vLike_any t z
      have tl : t.length ≤ pre.length := by
        have := congrArg List.length k5
        simp at this
        omega
      rw [k2] at n2
      obtain ⟨m1, m2⟩ := vLike_pre pre _ k3 n2
      rw [List.length_drop] at m1
      have n0 : n = 0 := by omega
      rw [n0, List.drop_zero, ← k5, hq] at m2
      cases m2
theorem LkI.star {a p s q : Str} {o : Option (Str × Str)} (k : LkI a p s (37 :: q) o) : LkI a p s q (some (s, q)) := by
  refine ⟨?_, [], rfl, fun x hx => (by cases hx), Nat.zero_le _, rfl, rfl⟩
  cases o with
  | none => exact k
  | some ts =>
    obtain ⟨t, S⟩ := ts
    obtain ⟨k1, pre, k2, k3, k4, k5, k6⟩ := k
    rw [k1]
    cases hq : vLike s (37 :: q) with
    | true =>
      rw [hq] at k6
      exact vLike_put k6
    | false =>
      apply Bool.eq_false_iff.mpr
      intro z
      obtain ⟨n, n1, n2⟩ := vLike_any t z
      rw [k2] at n2
      obtain ⟨m1, m2⟩ := vLike_pre pre _ k3 n2
      rw [List.drop_drop] at m2
      have : vLike s (37 :: q) = true := by
        refine vLike_suf n s ?_
        rw [k5, List.drop_drop, Nat.add_comm]
        rw [Nat.add_comm] at m2
        first | exact m2 | (rw [Nat.add_comm]; exact m2)
      rw [hq] at this
      cases this
theorem LkI.step {a p s q : Str} {c x : Int32} {o : Option (Str × Str)} (k : LkI a p (c :: s) (x :: q) o) (hx : x ≠ 37) (hm : (x == 95 || x == c) = true) : LkI a p s q o := by
  have e : vLike (c :: s) (x :: q) = vLike s q := by rw [vLike_c hx, hm, Bool.true_and]
  cases o with
  | none => exact Eq.trans k e
  | some ts =>
    obtain ⟨t, S⟩ := ts
    obtain ⟨k1, pre, k2, k3, k4, k5, k6⟩ := k
    have tl : pre.length < t.length := by
      have := congrArg List.length k5
      simp at this
      omega
    refine ⟨k1, pre ++ [x], by rw [k2]; simp, fun y hy => ?_, by simp; omega, ?_, k6.trans e⟩
    · rcases List.mem_append.mp hy with z | z
      · exact k3 y z
      · rw [List.mem_singleton.mp z]; exact hx
    · rw [List.length_append, List.length_singleton, ← List.drop_drop, ← k5]; rfl
theorem LkI.back {a p s q t S : Str} {c d : Int32} (k : LkI a p (c :: s) q (some (d :: t, S))) (hf : vLike (c :: s) q = false) : LkI a p t S (some (t, S)) := by
  obtain ⟨k1, pre, k2, k3, k4, k5, k6⟩ := k
  refine ⟨?_, [], rfl, fun x hx => (by cases hx), Nat.zero_le _, rfl, rfl⟩
  rw [k1, vLike_pc, k6, hf, Bool.false_or]
theorem LkI.none' {a p s q : Str} {c : Int32} (k : LkI a p (c :: s) q none) (hf : vLike (c :: s) q = false) : vLike a p = false := Eq.trans k hf
theorem LkI.ne {a p s q t S : Str} {c : Int32} (k : LkI a p (c :: s) q (some (t, S))) : ∃ d t', t = d :: t' := by
  obtain ⟨k1, pre, k2, k3, k4, k5, k6⟩ := k
  cases t with
  | nil => simp at k5
  | cons d t' => exact ⟨d, t', rfl⟩
theorem LkI.start {a p : Str} : LkI a p a p none := rfl
