/-! methods: name, code, locals, answer, handlers, instructions; tags of parameters and answer; links of the constant pool -/
abbrev JCp : Type := (Nat → Option Nat) × (Nat → Option MethodName) × (Nat → Option Nat) × (Nat → Option Nat) × (Nat → Option Int32) × (Nat → Option Int64)
abbrev JM : Type := MethodName × ByteArray × Nat × Option FieldType × List (Nat × Nat × Nat × Nat) × (Nat → Option (Instr × Nat)) × List Nat × Nat × JCp
def jmY (M : JM) : MethodName := M.1
def jmC (M : JM) : ByteArray := M.2.1
def jmL (M : JM) : Nat := M.2.2.1
def jmR (M : JM) : Option FieldType := M.2.2.2.1
def jmH (M : JM) : List (Nat × Nat × Nat × Nat) := M.2.2.2.2.1
def jmT (M : JM) : Nat → Option (Instr × Nat) := M.2.2.2.2.2.1
def jmP (M : JM) : List Nat := M.2.2.2.2.2.2.1
def jmG (M : JM) : Nat := M.2.2.2.2.2.2.2.1
/-- fields by pool index -/
def jmF (M : JM) : Nat → Option Nat := M.2.2.2.2.2.2.2.2.1
/-- methods by pool index -/
def jmQ (M : JM) : Nat → Option MethodName := M.2.2.2.2.2.2.2.2.2.1
/-- classes (kinds) by pool index -/
def jmK (M : JM) : Nat → Option Nat := M.2.2.2.2.2.2.2.2.2.2.1
/-- constants: strings and static references, by pool index: their number -/
def jmS (M : JM) : Nat → Option Nat := M.2.2.2.2.2.2.2.2.2.2.2.1
def jmI (M : JM) : Nat → Option Int32 := M.2.2.2.2.2.2.2.2.2.2.2.2.1
def jmJ (M : JM) : Nat → Option Int64 := M.2.2.2.2.2.2.2.2.2.2.2.2.2
def JFL (own : String) (idx F : Nat) : Prop :=
  F < 330 ∧ ∃ ref, (ref = fow F ∨ Cond.sameField ref (fow F) (fnm F) (fds F) ∈ lw_all) ∧
    (Cond.fieldLink own idx ref (fnm F) (fds F) ∈ lw_all ∨ ∃ host, Cond.fieldLinkNest own idx ref (fnm F) (fds F) host ∈ lw_tbl)
def JQL (own : String) (idx : Nat) (y : MethodName) : Prop := Cond.methodLink own idx y ∈ lw_all ∨ ∃ host, Cond.methodLinkNest own idx y host ∈ lw_tbl
def JMok (M : JM) : Prop :=
  (∀ pc x, jmT M pc = some x → decode (jmC M) pc = .ok x) ∧
  ((jmH M = [] ∧ Cond.code (jmY M) (jmC M) (jmL M) (jmR M) ∈ lw_all) ∨ Cond.codeWith (jmY M) (jmC M) (jmL M) (jmR M) (jmH M) ∈ lw_all) ∧
  plainFor (jmY M) = true ∧ ((jmY M).cls ≠ "java/lang/invoke/MethodHandle" ∧ (jmY M).cls ≠ "java/lang/invoke/VarHandle") ∧ Cond.initialized (jmY M).cls ∈ lw_all ∧
  (∀ idx F, jmF M idx = some F → JFL (jmY M).cls idx F) ∧ (∀ idx k, jmK M idx = some k → Cond.classLink (jmY M).cls idx (jcn k) ∈ lw_all) ∧ (∀ idx y, jmQ M idx = some y → JQL (jmY M).cls idx y) ∧
  (∀ idx v, jmI M idx = some v → Cond.constant (jmY M).cls idx v ∈ lw_all ∨ ((jmY M).cls, idx, v) ∈ jsin) ∧ (∀ idx v, jmJ M idx = some v → Cond.constantLong (jmY M).cls idx v ∈ lw_all) ∧ (∀ idx j, jmS M idx = some j → ((jmY M).cls, idx, j) ∈ jcst)
def JSm (M : JM) : Prop := Cond.static (jmY M) ∈ lw_all ∧ (parseMethodDescriptor (jmY M).desc).map (fun g => g.parameters.length) = some (jmP M).length
def JVm (M : JM) : Prop := Cond.instanceMethod (jmY M) ∈ lw_all ∧ Cond.selects (jmY M).cls (jmY M) (jmY M) ∈ lw_all ∧ (parseMethodDescriptor (jmY M).desc).map (fun g => g.parameters.length + 1) = some (jmP M).length
def JIm (M : JM) : Prop := Cond.instanceMethod (jmY M) ∈ lw_all ∧ (jmY M).name = "<init>" ∧ (parseMethodDescriptor (jmY M).desc).map (fun g => g.parameters.length + 1) = some (jmP M).length
