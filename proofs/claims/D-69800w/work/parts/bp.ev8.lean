/-! the component: pairs -/
section
variable {D : JD} {h h' h'' hm h0 h1 h2 h3 hb : JH} {ρ : Nat → Nat} {A : List Nod} {E Ec : TEnv} {d sc r x i n f c q lo hi t : Nat} {M : Nat → Prop} {pv : List Val} {grp : List TRow} {R : TRow} {G : TRow → JH → Prop} {wi : Bool} {z : Ex Val} {w : Val}
theorem prV_6 {k : Nat} {a b : Val} : prV 6 k a b = .ok (if (a.1 == 0 || b.1 == 0) = true then vNull else vBool (vLike a.2.2 b.2.2)) := by unfold prV; rw [if_pos rfl]
theorem prV_9 {k : Nat} {a b : Val} : prV 9 k a b = .ok (vTold k a b) := by unfold prV; rw [if_neg (by decide), if_pos rfl]
theorem prV_14 {k : Nat} {a b : Val} : prV 14 k a b = vWorked k a b := by unfold prV; rw [if_neg (by decide), if_neg (by decide)]
theorem eT_pr (o : ndO (nat_ A i) = 6 ∨ ndO (nat_ A i) = 9 ∨ ndO (nat_ A i) = 14) : eTree A E pv grp (f + 1) R i = (evK A E pv grp f R i 0 >>= fun a => evK A E pv grp f R i 1 >>= fun b => prV (ndO (nat_ A i)) (ndK (nat_ A i)) a b) := by
  rcases o with o | o | o
  · rw [eT_6 o, o]; simp only [prV_6]
  · rw [eT_9 o, o]; simp only [prV_9]
  · rw [eT_14 o, o]; simp only [prV_14]
theorem opN_lt {n : Nod} (o : ndO n = 6 ∨ ndO n = 9 ∨ ndO n = 14) (k5 : ndO n = 9 ∨ ndO n = 14 → ndK n ≤ 5) : ∃ j, opN n = j ∧ j < 371 ∧ (j < 373 ∧ jenm j = true) := by
  have en : ∀ j, j < 371 → 358 ≤ j → jenm j = true := by decide +kernel
  have l : ∀ k, k ≤ 5 → 358 ≤ [361, 362, 358, 359, 360, 363].getD k 361 ∧ [361, 362, 358, 359, 360, 363].getD k 361 < 371 := by decide
  have : 358 ≤ opN n ∧ opN n < 371 := by
    rcases o with o | o | o
    · rw [show opN n = 370 by unfold opN; rw [o]; rfl]; decide
    · have k := k5 (Or.inl o)
      rw [show opN n = 364 + ndK n by unfold opN; rw [o]; rfl]; omega
    · have k := k5 (Or.inr o)
      rw [show opN n = [361, 362, 358, 359, 360, 363].getD (ndK n) 361 by unfold opN; rw [o]; rfl]
      exact l _ k
  exact ⟨_, rfl, this.2, by omega, en _ this.2 this.1⟩
end
