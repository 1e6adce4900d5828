/-! the component: pairs of trees -/
section
variable {D : JD} {h h' h'' hm h0 h1 h2 h3 hb : JH} {ρ : Nat → Nat} {A : List Nod} {E Ec : TEnv} {d sc r x i n f c q lo hi t : Nat} {M : Nat → Prop} {pv : List Val} {grp : List TRow} {R : TRow} {G : TRow → JH → Prop} {wi : Bool} {z : Ex Val} {w : Val}
theorem ev_pair (C : EvC A E Ec ρ pv grp) (hG : EvG D A ρ sc G) (IH : EVX D A E Ec ρ sc pv grp G f) (hi : i < f + 1) (il : i < A.length) (hB : HB A (n + 1) i) (o : ndO (nat_ A i) = 6 ∨ ndO (nat_ A i) = 9 ∨ ndO (nat_ A i) = 10 ∨ ndO (nat_ A i) = 11 ∨ ndO (nat_ A i) = 14) (S : EvI D A E Ec ρ sc pv G R h) (pl : PlT A E h ρ (f + 1) i) (ht : tTree A Ec (f + 1) wi i = .ok t) (hd : 2 * n + 22 ≤ d) :
    cX33_at D d (ρ i) sc h (EQ D A E ρ sc pv i R h h (eTree A E pv grp (f + 1) R i)) := by
  by_cases z : ndO (nat_ A i) = 6 ∨ ndO (nat_ A i) = 9 ∨ ndO (nat_ A i) = 14
  · exact ev_two C hG IH hi il hB z S pl ht hd
  obtain ⟨e, rfl, he⟩ := dsucc hd
  have nr := S.1 i il
  have f7 := (nr.2.2.2.2.2.2.2.2.2.2.1 o).1
  have lg : ∀ or : Bool, (ndO (nat_ A i) = if or = true then 11 else 10) → W_X33_at_20 D e (EQ D A E ρ sc pv i R h h (eTree A E pv grp (f + 1) R i)) (ρ i) sc h := fun or y =>
    ⟨nr.1, EQ.in (w_logic (or := or) C hG IH hi il hB y S pl ht (by omega))⟩
  refine JW.inv fun hI => t_X33_at ⟨nr.1, ?_⟩
  rw [f7]
  rcases (show ndO (nat_ A i) = 10 ∨ ndO (nat_ A i) = 11 by omega) with y | y
  · rw [show opN (nat_ A i) = 371 by unfold opN; rw [y]; rfl]
    exact ⟨fun _ => lg false y, fun x => absurd rfl x⟩
  · rw [show opN (nat_ A i) = 372 by unfold opN; rw [y]; rfl]
    exact ⟨fun x => absurd (kc_ne hI ⟨by decide, by decide⟩ ⟨by decide, by decide⟩ x) (by decide), fun _ => ⟨fun x => absurd rfl x, fun _ => lg true y⟩⟩
end
