/-! contracts are stated with pI, pL, pR, pV; here they are used -/
abbrev no : Nat → JH → Prop := fun _ _ => False
section JU
variable {D : JD} {d : Nat} {M : JM} {pc : Nat} {ls : List (Option JV)} {st : List JV} {h h0 : JH}
theorem useV {K K' : JH → Prop} {E E' : Nat → JH → Prop} (k : JW D d M pc ls st h (pV D h K E)) (f : ∀ h', JInv D h' → jle h h' → K h' → K' h') (g : ∀ x h', JInv D h' → jle h h' → E x h' → E' x h') : JW D d M pc ls st h (pV D h K' E') := by
  refine k.mono fun r h' hI hl hp => ?_
  intro hI' hl'
  rcases r with (_ | v) | x
  · exact f h' hI hl (hp hI hl)
  · rcases v with v | v | v <;> exact (hp hI hl).elim
  · exact g x h' hI hl (hp hI hl)
theorem useI {K K' : Int32 → JH → Prop} {E E' : Nat → JH → Prop} (k : JW D d M pc ls st h (pI D h K E)) (f : ∀ v h', JInv D h' → jle h h' → K v h' → K' v h') (g : ∀ x h', JInv D h' → jle h h' → E x h' → E' x h') : JW D d M pc ls st h (pI D h K' E') := by
  refine k.mono fun r h' hI hl hp => ?_
  intro hI' hl'
  rcases r with (_ | v | v | v) | x
  · exact (hp hI hl).elim
  · exact f v h' hI hl (hp hI hl)
  · exact (hp hI hl).elim
  · exact (hp hI hl).elim
  · exact g x h' hI hl (hp hI hl)
theorem useL {K K' : Int64 → JH → Prop} {E E' : Nat → JH → Prop} (k : JW D d M pc ls st h (pL D h K E)) (f : ∀ v h', JInv D h' → jle h h' → K v h' → K' v h') (g : ∀ x h', JInv D h' → jle h h' → E x h' → E' x h') : JW D d M pc ls st h (pL D h K' E') := by
  refine k.mono fun r h' hI hl hp => ?_
  intro hI' hl'
  rcases r with (_ | v | v | v) | x
  · exact (hp hI hl).elim
  · exact (hp hI hl).elim
  · exact f v h' hI hl (hp hI hl)
  · exact (hp hI hl).elim
  · exact g x h' hI hl (hp hI hl)
theorem useR {gt : Nat} {K K' : Nat → JH → Prop} {E E' : Nat → JH → Prop} (k : JW D d M pc ls st h (pR D h gt K E)) (f : ∀ v h', JInv D h' → jle h h' → K v h' → K' v h') (g : ∀ x h', JInv D h' → jle h h' → E x h' → E' x h') : JW D d M pc ls st h (pR D h gt K' E') := by
  refine k.mono fun r h' hI hl hp => ?_
  intro hI' hl' ho
  rcases r with (_ | v | v | v) | x
  · exact (hp hI hl ho).elim
  · exact (hp hI hl ho).elim
  · exact (hp hI hl ho).elim
  · exact ⟨(hp hI hl ho).1, f _ h' hI hl (hp hI hl ho).2⟩
  · exact g x h' hI hl (hp hI hl ho)
theorem useV0 {K K' : JH → Prop} {E' : Nat → JH → Prop} (k : JW D d M pc ls st h (pV D h K no)) (f : ∀ h', JInv D h' → jle h h' → K h' → K' h') : JW D d M pc ls st h (pV D h K' E') := useV k f fun _ _ _ _ z => z.elim
theorem useI0 {K K' : Int32 → JH → Prop} {E' : Nat → JH → Prop} (k : JW D d M pc ls st h (pI D h K no)) (f : ∀ v h', JInv D h' → jle h h' → K v h' → K' v h') : JW D d M pc ls st h (pI D h K' E') := useI k f fun _ _ _ _ z => z.elim
theorem useL0 {K K' : Int64 → JH → Prop} {E' : Nat → JH → Prop} (k : JW D d M pc ls st h (pL D h K no)) (f : ∀ v h', JInv D h' → jle h h' → K v h' → K' v h') : JW D d M pc ls st h (pL D h K' E') := useL k f fun _ _ _ _ z => z.elim
theorem useR0 {gt : Nat} {K K' : Nat → JH → Prop} {E' : Nat → JH → Prop} (k : JW D d M pc ls st h (pR D h gt K no)) (f : ∀ v h', JInv D h' → jle h h' → K v h' → K' v h') : JW D d M pc ls st h (pR D h gt K' E') := useR k f fun _ _ _ _ z => z.elim
/-- how a contract's proof ends -/
theorem endV {K : JH → Prop} {E : Nat → JH → Prop} {h' : JH} (f : JInv D h' → jle h h' → K h') : pV D h K E (.inl none) h' := f
theorem endI {K : Int32 → JH → Prop} {E : Nat → JH → Prop} {h' : JH} {v : Int32} (f : JInv D h' → jle h h' → K v h') : pI D h K E (.inl (some (vI v))) h' := f
theorem endL {K : Int64 → JH → Prop} {E : Nat → JH → Prop} {h' : JH} {v : Int64} (f : JInv D h' → jle h h' → K v h') : pL D h K E (.inl (some (vL v))) h' := f
theorem endR {gt : Nat} {K : Nat → JH → Prop} {E : Nat → JH → Prop} {h' : JH} {v : Nat} (f : JInv D h' → jle h h' → (v = 0 ∨ sbt (jkd h' v) gt = true) → K v h') : pR D h gt K E (.inl (some (vR gt v))) h' := fun a b c => ⟨rfl, f a b c⟩
theorem endX {gt : Nat} {K : Nat → JH → Prop} {E : Nat → JH → Prop} {h' : JH} {x : Nat} (f : JInv D h' → jle h h' → E x h') : pR D h gt K E (.inr x) h' := fun a b _ => f a b
end JU
