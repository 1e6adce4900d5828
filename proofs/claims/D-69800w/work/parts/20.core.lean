/-! values, the abstract heap of typed maps -/
abbrev JV : Type := Int32 ⊕ (Int64 ⊕ (Nat × Nat))
abbrev vI (x : Int32) : JV := .inl x
abbrev vL (x : Int64) : JV := .inr (.inl x)
abbrev vR (t r : Nat) : JV := .inr (.inr (t, r))
def rv : Nat → Value
  | 0 => .null
  | a + 1 => .ref a
def vv : JV → Value
  | .inl x => .int x
  | .inr (.inl x) => .long x
  | .inr (.inr q) => rv q.2
def jct : JV → Nat
  | .inr (.inl _) => 2
  | _ => 1
theorem vv_cat (v : JV) : (vv v).category = jct v := by
  rcases v with x | x | ⟨t, r⟩
  · rfl
  · rfl
  · cases r <;> rfl
abbrev JO : Type := Option JV ⊕ Nat
abbrev JH : Type := (Nat → Nat) × (Nat → Nat) × (Nat → Nat → Int32) × (Nat → Nat → Int64) × (Nat → Nat → Nat) × (Nat → Nat → Int32) × (Nat → Nat → Int64) × (Nat → Nat → Nat) × Nat × Nat
def jkd (h : JH) (r : Nat) : Nat := h.1 r
def jln (h : JH) (r : Nat) : Nat := h.2.1 r
def jfi (h : JH) (F r : Nat) : Int32 := h.2.2.1 F r
def jfl (h : JH) (F r : Nat) : Int64 := h.2.2.2.1 F r
def jfr (h : JH) (F r : Nat) : Nat := h.2.2.2.2.1 F r
def jai (h : JH) (r i : Nat) : Int32 := h.2.2.2.2.2.1 r i
def jal (h : JH) (r i : Nat) : Int64 := h.2.2.2.2.2.2.1 r i
def jar (h : JH) (r i : Nat) : Nat := h.2.2.2.2.2.2.2.1 r i
def jsz (h : JH) : Nat := h.2.2.2.2.2.2.2.2.1
def jus (h : JH) : Nat := h.2.2.2.2.2.2.2.2.2
def wfi (h : JH) (F r : Nat) (v : Int32) : JH := (h.1, h.2.1, (fun G q => if G = F ∧ q = r then v else h.2.2.1 G q), h.2.2.2)
def wfl (h : JH) (F r : Nat) (v : Int64) : JH := (h.1, h.2.1, h.2.2.1, (fun G q => if G = F ∧ q = r then v else h.2.2.2.1 G q), h.2.2.2.2)
def wfr (h : JH) (F r : Nat) (v : Nat) : JH := (h.1, h.2.1, h.2.2.1, h.2.2.2.1, (fun G q => if G = F ∧ q = r then v else h.2.2.2.2.1 G q), h.2.2.2.2.2)
def wai (h : JH) (r i : Nat) (v : Int32) : JH := (h.1, h.2.1, h.2.2.1, h.2.2.2.1, h.2.2.2.2.1, (fun q j => if q = r ∧ j = i then v else h.2.2.2.2.2.1 q j), h.2.2.2.2.2.2)
def wal (h : JH) (r i : Nat) (v : Int64) : JH := (h.1, h.2.1, h.2.2.1, h.2.2.2.1, h.2.2.2.2.1, h.2.2.2.2.2.1, (fun q j => if q = r ∧ j = i then v else h.2.2.2.2.2.2.1 q j), h.2.2.2.2.2.2.2)
def war (h : JH) (r i : Nat) (v : Nat) : JH := (h.1, h.2.1, h.2.2.1, h.2.2.2.1, h.2.2.2.2.1, h.2.2.2.2.2.1, h.2.2.2.2.2.2.1, (fun q j => if q = r ∧ j = i then v else h.2.2.2.2.2.2.2.1 q j), h.2.2.2.2.2.2.2.2)
/-- a new object of kind k, of n slots -/
def nwo (h : JH) (k n : Nat) : JH := ((fun q => if q = jsz h + 1 then k else h.1 q), h.2.1, h.2.2.1, h.2.2.2.1, h.2.2.2.2.1, h.2.2.2.2.2.1, h.2.2.2.2.2.2.1, h.2.2.2.2.2.2.2.1, jsz h + 1, jus h + n)
/-- a new array of kind k, of n elements -/
def nwa (h : JH) (k n : Nat) : JH := ((fun q => if q = jsz h + 1 then k else h.1 q), (fun q => if q = jsz h + 1 then n else h.2.1 q), h.2.2.1, h.2.2.2.1, h.2.2.2.2.1, h.2.2.2.2.2.1, h.2.2.2.2.2.2.1, h.2.2.2.2.2.2.2.1, jsz h + 1, jus h + n)
/-! the context of a run: the start's state, class numbers of kinds, slots of fields, addresses of constants, the start's abstract heap -/
abbrev JD : Type := State × (Nat → ClassId) × (Nat → Nat) × (Nat → Nat) × JH
def jd0 (D : JD) : State := D.1
def jck (D : JD) (k : Nat) : ClassId := D.2.1 k
def jsl (D : JD) (F : Nat) : Nat := D.2.2.1 F
def jcs (D : JD) (j : Nat) : Nat := D.2.2.2.1 j
def jh0 (D : JD) : JH := D.2.2.2.2
def jbs (D : JD) : Nat := (jd0 D).heap.size
def jfv (h : JH) (F r : Nat) : Value := match ftk F with
  | 0 => .int (jfi h F r)
  | 1 => .long (jfl h F r)
  | _ => rv (jfr h F r)
def jev (h : JH) (r i : Nat) : Value := match atk (jkd h r) with
  | 0 => .int (jai h r i)
  | 1 => .long (jal h r i)
  | _ => rv (jar h r i)
def JOld (D : JD) (h : JH) : Prop := ∀ r, r ≤ jbs D → jkd h r = jkd (jh0 D) r ∧ jln h r = jln (jh0 D) r ∧ (∀ F, jfi h F r = jfi (jh0 D) F r ∧ jfl h F r = jfl (jh0 D) F r ∧ jfr h F r = jfr (jh0 D) F r) ∧ ∀ i, jai h r i = jai (jh0 D) r i ∧ jal h r i = jal (jh0 D) r i ∧ jar h r i = jar (jh0 D) r i
def JZero (h : JH) : Prop := ∀ r, jsz h < r → (∀ F, jfi h F r = 0 ∧ jfl h F r = 0 ∧ jfr h F r = 0) ∧ ∀ i, jai h r i = 0 ∧ jal h r i = 0 ∧ jar h r i = 0
/-- the constants: their kinds and contents -/
def JC0 (D : JD) : Prop :=
  (∀ j, j < 373 → jcs D j ≤ jbs D ∧ (jcs D j = 0 ∨ sbt (jkd (jh0 D) (jcs D j)) (jctg j) = true)) ∧
  (∀ j, j < 345 → jcs D j ≠ 0 ∧ jkd (jh0 D) (jcs D j) = 51 ∧ jfi (jh0 D) 76 (jcs D j) = 0 ∧ jfi (jh0 D) 77 (jcs D j) = jhsh j ∧ jfi (jh0 D) 78 (jcs D j) = (if jhsh j = 0 then 1 else 0) ∧ jfr (jh0 D) 75 (jcs D j) ≠ 0 ∧ jfr (jh0 D) 75 (jcs D j) ≤ jbs D ∧ jkd (jh0 D) (jfr (jh0 D) 75 (jcs D j)) = 66 ∧
    jln (jh0 D) (jfr (jh0 D) 75 (jcs D j)) = (jtxt j).length ∧ ∀ i b, (jtxt j)[i]? = some b → jai (jh0 D) (jfr (jh0 D) 75 (jcs D j)) i = nI b) ∧
  (∀ j, j < 373 → jenm j = true → jcs D j ≠ 0 ∧ jkd (jh0 D) (jcs D j) = jctg j ∧ jfi (jh0 D) 327 (jcs D j) = jord j ∧ (jctg j = 52 → jfi (jh0 D) 328 (jcs D j) = jtnm j ∧ jfi (jh0 D) 329 (jcs D j) = jtsz j) ∧ ∀ i, i < 373 → jenm i = true → jcs D i = jcs D j → i = j)
/-- the heap is well typed, its objects are among the cells, the old ones are as they were, nothing is written beyond its end -/
def JInv (D : JD) (h : JH) : Prop :=
  (∀ r, jkd h r ≠ 0 → 1 ≤ r ∧ r ≤ jsz h ∧ jkk (jkd h r) = true) ∧ (∀ r, wrt (jkd h r) = true → jbs D < r) ∧
  (∀ F r, jfr h F r = 0 ∨ sbt (jkd h (jfr h F r)) (ftg F) = true) ∧ (∀ r i, jar h r i = 0 ∨ sbt (jkd h (jar h r i)) (atg (jkd h r)) = true) ∧
  JZero h ∧ JOld D h ∧ jbs D ≤ jsz h ∧ JC0 D
/-- the exceptions; an exception whose constructor has not been run (the pseudo-field 330 is 0) is blank -/
def jexc (k : Nat) : Bool := Nat.beq k 9 || (Nat.beq k 13 || (Nat.beq k 38 || (Nat.beq k 39 || (Nat.beq k 40 || Nat.beq k 42))))
def jxf (F : Nat) : Bool := Nat.beq (fcl F) 9 || Nat.beq (fcl F) 42
theorem jexc_cases {k : Nat} (h : jexc k = true) : k = 9 ∨ k = 13 ∨ k = 38 ∨ k = 39 ∨ k = 40 ∨ k = 42 := by
  simp only [jexc, Bool.or_eq_true, Nat.beq_eq] at h
  exact h
theorem jexc_aty {k : Nat} (h : jexc k = true) : aty k = none := by
  rcases jexc_cases h with rfl | rfl | rfl | rfl | rfl | rfl <;> rfl
def jfre (D : JD) (h : JH) (r : Nat) (cell : Cell) : Prop := jexc (jkd h r) = true → jfi h 330 r = 0 → ∃ kX : Class, (jd0 D).vm.classes[jck D (jkd h r)]? = some kX ∧ cell = { cls := jck D (jkd h r), slots := kX.instanceTypes.map defaultValue, vm := .none }
theorem jfre.of {D : JD} {h h1 : JH} {r : Nat} {cell : Cell} (e1 : jkd h1 r = jkd h r) (e2 : jfi h1 330 r = jfi h 330 r) (hc : jfre D h r cell) : jfre D h1 r cell := by
  unfold jfre at hc ⊢
  rw [e1, e2]; exact hc
def JCell (D : JD) (h : JH) (r : Nat) (cell : Cell) : Prop :=
  cell.cls = jck D (jkd h r) ∧ cell.vm ≠ .unknown ∧ cell.vm.isStatics = false ∧ (wrt (jkd h r) = true → cell.vm = .none ∧ jfre D h r cell) ∧
  (aty (jkd h r) = none → ∀ F ∈ fld (jkd h r), cell.slots[jsl D F]? = some (jfv h F r)) ∧
  (aty (jkd h r) ≠ none → cell.slots.size = jln h r ∧ ∀ i, i < jln h r → cell.slots[i]? = some (jev h r i))
def JRl (D : JD) (h : JH) (H : Heap) : Prop :=
  H.size = jsz h ∧ (∀ q : Nat, q < jbs D → H[q]? = (jd0 D).heap[q]?) ∧ ∀ q : Nat, jkd h (q + 1) ≠ 0 → ∃ cell, H[q]? = some cell ∧ JCell D h (q + 1) cell
def jok (h : JH) : JV → Prop
  | .inr (.inr q) => q.2 = 0 ∨ sbt (jkd h q.2) q.1 = true
  | _ => True
def jokO (h : JH) : JO → Prop
  | .inl (some v) => jok h v
  | .inl none => True
  | .inr e => 1 ≤ e ∧ jkd h e ≠ 0
def jle (h h' : JH) : Prop := jsz h ≤ jsz h' ∧ jus h ≤ jus h' ∧ ∀ r, jkd h r ≠ 0 → jkd h' r = jkd h r
theorem jle.rf (h : JH) : jle h h := ⟨Nat.le_refl _, Nat.le_refl _, fun _ _ => rfl⟩
theorem jle.tr {a b c : JH} (h1 : jle a b) (h2 : jle b c) : jle a c :=
  ⟨Nat.le_trans h1.1 h2.1, Nat.le_trans h1.2.1 h2.2.1, fun r hr => by
    have e := h1.2.2 r hr
    rw [h2.2.2 r (by rw [e]; exact hr), e]⟩
theorem sbt_ne0 {k t : Nat} (h : sbt k t = true) : k ≠ 0 := fun e => by rw [e, sbt_0] at h; cases h
theorem jok.le {h h' : JH} (hl : jle h h') {v : JV} (hv : jok h v) : jok h' v := by
  rcases v with x | x | ⟨t, r⟩
  · trivial
  · trivial
  · rcases hv with e | e
    · exact Or.inl e
    · exact Or.inr (by rw [hl.2.2 r (sbt_ne0 e)]; exact e)
/-! the frame of a method in the machine; the judgement -/
def jfnd (s : State) (D : JD) (F : Nat) : Prop := ∃ (cf : ClassId) (kf : Class) (fi : Nat) (f : Field), s.fieldFound? (fow F) (fnm F) (fds F) = some (cf, kf, fi, f) ∧ f.isStatic = false ∧ f.slot = jsl D F
def jcls (s : State) (D : JD) (k : Nat) : Prop := ClassAt s (jcn k) (jck D k)
def jtn : FieldType → String
  | .object C => C
  | t => t.toString
def jarr (s : State) (D : JD) (k : Nat) : Prop := ∀ ty, aty k = some ty → s.vm.findClass ("[" ++ ty.toString) = some (jck D k) ∧ ∃ (kA : Class) (comp : ClassId), s.vm.classes[jck D k]? = some kA ∧ kA.kind = .array comp ty ∧ (ty.isReference = true → s.vm.findClass (jtn ty) = some comp)
/-- what may be laid into an array of references -/
def jasg (s : State) (D : JD) : Prop := ∀ k A ty comp, sbt k (atg A) = true → jkk k = true → atk A = 2 → aty A = some ty → s.vm.findClass (jtn ty) = some comp → s.vm.assignable (jck D k) comp = true ∧ (∃ kk, s.vm.classes[jck D k]? = some kk) ∧ ∃ kc, s.vm.classes[comp]? = some kc
def jstat (D : JD) (own : String) (idx : Nat) (v : Value) : Prop := ∃ (C n d : String) (cf : ClassId) (kf : Class) (fi : Nat) (f : Field) (a : Addr) (cell : Cell),
  (Cond.fieldLink own idx C n d ∈ lw_all ∨ ∃ host, Cond.fieldLinkNest own idx C n d host ∈ lw_tbl) ∧ (jd0 D).fieldFound? C n d = some (cf, kf, fi, f) ∧ f.isStatic = true ∧ kf.init = .initialized ∧ kf.statics = some a ∧ (jd0 D).heap[a]? = some cell ∧ cell.vm ≠ .unknown ∧ cell.slots[f.slot]? = some v
/-- constants: strings below 345, static references behind them -/
def jcok (D : JD) : Prop :=
  (∀ q ∈ jcst, (q.2.2 < 345 → ∃ tx a, vk_R q.1 q.2.1 tx a (jd0 D) ∧ jcs D q.2.2 = a + 1) ∧ (345 ≤ q.2.2 → jstat D q.1 q.2.1 (rv (jcs D q.2.2))) ∧ q.2.2 < 373) ∧ (∀ q ∈ jsin, jstat D q.1 q.2.1 (.int q.2.2))
/-- what holds at the start of the whole run -/
def JDok (D : JD) : Prop :=
  (∃ b : Addr, (∀ w ∈ lw_tbl, w.before #[Value.ref b] (jd0 D) = true) ∧ narrow_1.before #[Value.ref b] (jd0 D) = true) ∧ (∀ F, F < 330 → jfnd (jd0 D) D F) ∧ (∀ k, job_ k = true → jcls (jd0 D) D k) ∧ (∀ k, jarr (jd0 D) D k) ∧ jasg (jd0 D) D ∧ jcok D
def JFr (D : JD) (M : JM) (l : Launch) (p : Program) (s : State) (m : MethodId) (meth : Method) (c : Code) : Prop :=
  p.tables.exec = Jvm.exec ∧ JDok D ∧ (jd0 D).WarmedH s.vm ∧ JMok M ∧ c.code = jmC M ∧ c.maxLocals = jmL M ∧ meth.sig.returnType = jmR M ∧ meth.locks = false ∧ meth.name = (jmY M).name ∧
  s.vm.findClass (jmY M).cls = some m.cls ∧ c.exceptionTable.toList.map (fun h => (h.startPc, h.endPc, h.handlerPc, h.catchType)) = jmH M ∧ l.stackTraces = false
def jasc (n : Nat) : List (Option JV) → List (Nat × Value)
  | [] => []
  | none :: l => jasc (n + 1) l
  | some v :: l => (n, vv v) :: jasc (n + 1) l
def JKp (K : Nat → Prop) (s : State) (h : JH) (H : Heap) : Prop := ∀ q : Nat, K q → q < s.heap.size → jkd h (q + 1) = 0 ∧ H[q]? = s.heap[q]?
def jout : JO → Outcome → Prop
  | .inl v, o => o = .returned (v.map vv)
  | .inr e, o => ∃ a, e = a + 1 ∧ o = .threw a
def JFin (D : JD) (below : List Frame) (s : State) (r : JO) (h' : JH) (c0 u0 : Nat) (K : Nat → Prop) (t : State) : Prop :=
  ∃ o, t.status = .running ∧ Ended t below o ∧ jout r o ∧ s.WarmedH t.vm ∧ JRl D h' t.heap ∧ JKp K s h' t.heap ∧
    ∃ L, (∀ q ∈ L, jbs D ≤ q.base) ∧ s.sameButNew ({ t with vm := s.vm } : State) L (jsz h' - c0) (jus h' - u0)
def JX (D : JD) (d : Nat) (M : JM) (pc : Nat) (ls : List (Option JV)) (st : List JV) (h : JH) (r : JO) (h' : JH) : Prop :=
  JInv D h → (∀ v, some v ∈ ls → jok h v) → (∀ v ∈ st, jok h v) → (JInv D h' ∧ jokO h' r ∧ jle h h') ∧
  ∀ (p : Program) (l : Launch) (e : Env) (R : Room) (s : State) (m : MethodId) (args : Array Value) (below : List Frame) (meth : Method) (c : Code) (H : Heap) (locs : List Loc) (c0 u0 : Nat) (K : Nat → Prop) (lsA : Array Slot),
    JFr D M l p s m meth c → JRl D h H → lv_has lsA (jmL M) (jasc 0 ls) → d ≤ R.frames → 46 * d ≤ R.locals → jsz h' - c0 ≤ R.cells → jus h' - u0 ≤ R.slots → c0 ≤ jsz h → u0 ≤ jus h →
    (∀ q ∈ locs, jbs D ≤ q.base) → JKp K s h H →
    W p l e R s m args below meth c H locs (jsz h - c0) (jus h - u0) (JFin D below s r h' c0 u0 K) (F0 m pc lsA (st.map vv))
def JW (D : JD) (d : Nat) (M : JM) (pc : Nat) (ls : List (Option JV)) (st : List JV) (h : JH) (Q : JO → JH → Prop) : Prop :=
  JInv D h → (∀ v, some v ∈ ls → jok h v) → (∀ v ∈ st, jok h v) → ∃ r h', JX D d M pc ls st h r h' ∧ Q r h'
section JR
variable {D : JD} {d : Nat} {M : JM} {pc pc' : Nat} {ls ls' : List (Option JV)} {st st' : List JV} {h : JH} {Q : JO → JH → Prop}
theorem JW.mono {Q' : JO → JH → Prop} (k : JW D d M pc ls st h Q) (f : ∀ r h', JInv D h' → jle h h' → Q r h' → Q' r h') : JW D d M pc ls st h Q' := by
  intro hI hl hs
  obtain ⟨r, h', hx, hq⟩ := k hI hl hs
  exact ⟨r, h', hx, f r h' (hx hI hl hs).1.1 (hx hI hl hs).1.2.2 hq⟩
theorem JW.inv (k : JInv D h → JW D d M pc ls st h Q) : JW D d M pc ls st h Q := fun hI => k hI hI
theorem JW.okl (k : (∀ v, some v ∈ ls → jok h v) → JW D d M pc ls st h Q) : JW D d M pc ls st h Q := fun hI hl => k hl hI hl
/-- steps that touch neither heap nor what is ahead -/
theorem jx_sil {r : JO} {h' : JH} (hpc : ∀ v ∈ st', v ∈ st ∨ jok h v) (hls : ∀ v, some v ∈ ls' → some v ∈ ls ∨ v ∈ st ∨ jok h v)
    (f : ∀ (p : Program) (l : Launch) (e : Env) (R : Room) (s : State) (m : MethodId) (args : Array Value) (below : List Frame) (meth : Method) (c : Code) (H : Heap) (locs : List Loc) (cells slots : Nat) (Z : State → Prop) (lsA : Array Slot),
      JFr D M l p s m meth c → lv_has lsA (jmL M) (jasc 0 ls) → (∀ lsB, lv_has lsB (jmL M) (jasc 0 ls') → W p l e R s m args below meth c H locs cells slots Z (F0 m pc' lsB (st'.map vv))) → W p l e R s m args below meth c H locs cells slots Z (F0 m pc lsA (st.map vv)))
    (k : JX D d M pc' ls' st' h r h') : JX D d M pc ls st h r h' := by
  intro hI hl hs
  obtain ⟨a, b⟩ := k hI (fun v hv => by
    rcases hls v hv with q | q | q
    · exact hl v q
    · exact hs v q
    · exact q) (fun v hv => by
    rcases hpc v hv with q | q
    · exact hs v q
    · exact q)
  refine ⟨a, fun p l e R s m args below meth c H locs c0 u0 K lsA hF hR hL h1 h2 h3 h4 h5 h6 h7 h8 => ?_⟩
  exact f p l e R s m args below meth c H locs _ _ _ lsA hF hL fun lsB hB => b p l e R s m args below meth c H locs c0 u0 K lsB hF hR hB h1 h2 h3 h4 h5 h6 h7 h8
theorem jw_of {pc' : Nat} {ls' : List (Option JV)} {st' : List JV} (hI' : (∀ v, some v ∈ ls → jok h v) → (∀ v ∈ st, jok h v) → (∀ v, some v ∈ ls' → jok h v) ∧ (∀ v ∈ st', jok h v))
    (f : ∀ r h', JX D d M pc' ls' st' h r h' → JX D d M pc ls st h r h') (k : JW D d M pc' ls' st' h Q) : JW D d M pc ls st h Q := by
  intro hI hl hs
  obtain ⟨r, h', hx, hq⟩ := k hI (hI' hl hs).1 (hI' hl hs).2
  exact ⟨r, h', f r h' hx, hq⟩
end JR
