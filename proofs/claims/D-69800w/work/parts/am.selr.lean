/-! the parser of the component: SELECT, its items and sources -/
section
variable {D : JD} {p s a base : Nat} {src : Str} {h h' h'' h0 : JH} {ρ ρ' : Nat → Nat} {q N : Nat}
/-- a string or null -/
def OsR (h : JH) (v : Nat) : Option Str → Prop
  | none => v = 0
  | some w => StR h v w
theorem OsR.of {v : Nat} {o : Option Str} (k : OsR h v o) (st : ∀ q w, StR h q w → StR h' q w) : OsR h' v o := by
  cases o with
  | none => exact k
  | some w => exact st _ _ k
/-- an item: star and its source, or a tree and its name -/
def ItmR (h : JH) (ρ : Nat → Nat) (q : Nat) (it : Itm) : Prop :=
  q ≠ 0 ∧ jkd h q = 34 ∧ jfi h 161 q = (if it.1 = true then 1 else 0) ∧ (it.1 = true → OsR h (jfr h 162 q) it.2.1) ∧ (it.1 = false → jfr h 163 q = ρ it.2.2 ∧ OsR h (jfr h 164 q) it.2.1)
theorem ItmR.of {it : Itm} (k : ItmR h ρ q it) (sm : same h h' q) (st : ∀ q w, StR h q w → StR h' q w) (hr : it.1 = false → ρ' it.2.2 = ρ it.2.2) : ItmR h' ρ' q it := by
  obtain ⟨k1, k2, k3, k4, k5⟩ := k
  refine ⟨k1, by rw [sm.kd]; exact k2, by rw [sm.fi]; exact k3, fun z => by rw [sm.fr]; exact (k4 z).of st, fun z => ?_⟩
  rw [sm.fr, sm.fr, hr z]
  exact ⟨(k5 z).1, (k5 z).2.of st⟩
/-- a source of SELECT: table, name, whether left, condition -/
def SrcR (h : JH) (ρ : Nat → Nat) (q : Nat) (v : Src) : Prop :=
  q ≠ 0 ∧ jkd h q = 31 ∧ StR h (jfr h 137 q) v.1 ∧ StR h (jfr h 136 q) v.2.1 ∧ jfi h 139 q = (if v.2.2.1 = true then 1 else 0) ∧ OtR ρ (jfr h 140 q) v.2.2.2
theorem SrcR.of {v : Src} (k : SrcR h ρ q v) (sm : same h h' q) (st : ∀ q w, StR h q w → StR h' q w) (hr : ∀ x, v.2.2.2 = some x → ρ' x = ρ x) : SrcR h' ρ' q v := by
  obtain ⟨k1, k2, k3, k4, k5, k6⟩ := k
  refine ⟨k1, by rw [sm.kd]; exact k2, by rw [sm.fr]; exact st _ _ k3, by rw [sm.fr]; exact st _ _ k4, by rw [sm.fi]; exact k5, ?_⟩
  rw [sm.fr]
  cases e : v.2.2.2 with
  | none => rw [e] at k6; exact k6
  | some x =>
    rw [e] at k6
    show jfr h 140 q = ρ' x
    rw [hr x e]; exact k6
end
