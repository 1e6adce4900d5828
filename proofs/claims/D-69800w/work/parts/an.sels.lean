/-! the parser of the component: SELECT, lists of items and sources -/
section
variable {D : JD} {p s a base : Nat} {src : Str} {h h' h'' h0 : JH} {ρ ρ' : Nat → Nat} {q N A : Nat}
def ItsR (N : Nat) (h : JH) (ρ : Nat → Nat) (A : Nat) (l : List Itm) : Prop := ∀ i it, l[i]? = some it → N < jar h A i ∧ ItmR h ρ (jar h A i) it
def SrsR (N : Nat) (h : JH) (ρ : Nat → Nat) (A : Nat) (l : List Src) : Prop := ∀ i v, l[i]? = some v → N < jar h A i ∧ SrcR h ρ (jar h A i) v
theorem ItsR.of {l : List Itm} (k : ItsR N h ρ A l) (sA : same h h' A) (sm : ∀ i, i < l.length → same h h' (jar h A i)) (st : ∀ q w, StR h q w → StR h' q w) (hr : ∀ it ∈ l, it.1 = false → ρ' it.2.2 = ρ it.2.2) : ItsR N h' ρ' A l := fun i it hi => by
  rw [sA.ar]
  exact ⟨(k i it hi).1, (k i it hi).2.of (sm i (List.getElem?_eq_some_iff.mp hi).1) st (hr it (List.mem_of_getElem? hi))⟩
theorem SrsR.of {l : List Src} (k : SrsR N h ρ A l) (sA : same h h' A) (sm : ∀ i, i < l.length → same h h' (jar h A i)) (st : ∀ q w, StR h q w → StR h' q w) (hr : ∀ v ∈ l, ∀ x, v.2.2.2 = some x → ρ' x = ρ x) : SrsR N h' ρ' A l := fun i v hi => by
  rw [sA.ar]
  exact ⟨(k i v hi).1, (k i v hi).2.of (sm i (List.getElem?_eq_some_iff.mp hi).1) st (hr v (List.mem_of_getElem? hi))⟩
theorem ItsR.snoc {l : List Itm} {it : Itm} (k : ItsR N h ρ A l) (hN : N < jar h A l.length) (hi : ItmR h ρ (jar h A l.length) it) : ItsR N h ρ A (l ++ [it]) := fun i y hy => by
  rcases get_snoc hy with ⟨rfl, rfl⟩ | ⟨_, g⟩
  · exact ⟨hN, hi⟩
  · exact k i y g
theorem SrsR.snoc {l : List Src} {v : Src} (k : SrsR N h ρ A l) (hN : N < jar h A l.length) (hi : SrcR h ρ (jar h A l.length) v) : SrsR N h ρ A (l ++ [v]) := fun i y hy => by
  rcases get_snoc hy with ⟨rfl, rfl⟩ | ⟨_, g⟩
  · exact ⟨hN, hi⟩
  · exact k i y g
end
