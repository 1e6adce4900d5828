/-! the parser of the component: trees in the heap -/
theorem JW.up {D : JD} {M : JM} {pc n d : Nat} {ls : List (Option JV)} {st : List JV} {h : JH} {Q : JO → JH → Prop} (k : ∀ d, JW D (d + n) M pc ls st h Q) (hd : n ≤ d) : JW D d M pc ls st h Q := by
  have := k (d - n)
  rwa [Nat.sub_add_cancel hd] at this
theorem dsucc {n d : Nat} (h : n + 1 ≤ d) : ∃ e, d = e + 1 ∧ n ≤ e := ⟨d - 1, by omega, by omega⟩
/-- each cell has characters of its own, each tree cells of its own -/
def OW (h : JH) : Prop := ∀ F a b, (F = 67 ∨ F = 108 ∨ F = 115) → jfr h F a = jfr h F b → jfr h F a ≠ 0 → a = b
theorem OW.tx {h : JH} (o : OW h) : TX h := fun a b => o 67 a b (Or.inl rfl)
theorem OW.of {h h' : JH} (o : OW h) (t : TX h') (e : ∀ F q, 92 ≤ F → jfr h' F q = jfr h F q) : OW h' := by
  rintro F a b (rfl | rfl | rfl) e1 e2
  · exact t a b e1 e2
  · rw [e 108 a (by decide)] at e1 e2
    rw [e 108 b (by decide)] at e1
    exact o 108 a b (by simp) e1 e2
  · rw [e 115 a (by decide)] at e1 e2
    rw [e 115 b (by decide)] at e1
    exact o 115 a b (by simp) e1 e2
theorem OW.eq {h h' : JH} (o : OW h) (e : ∀ F q, (F = 67 ∨ F = 108 ∨ F = 115) → jfr h' F q = jfr h F q) : OW h' := fun F a b hF e1 e2 => by
  rw [e F a hF] at e1 e2
  rw [e F b hF] at e1
  exact o F a b hF e1 e2
def pfM (h : JH) (p s q : Nat) : Prop := q = p ∨ q = s ∨ q = jfr h 90 s ∨ q = jfr h 67 (jfr h 90 s) ∨ jkd h q = 12
/-- from h to h' the parser p and the signs s have changed, strings are what they were -/
def PFr (h h' : JH) (p s : Nat) : Prop :=
  fr (jsz h) (pfM h p s) h h' ∧ jfr h' 90 s = jfr h 90 s ∧ (jfr h' 67 (jfr h 90 s) = jfr h 67 (jfr h 90 s) ∨ jsz h < jfr h' 67 (jfr h 90 s)) ∧ (jsz h ≤ jsz h' ∧ ∀ q, jfr h' 111 q = jfr h 111 q ∨ jsz h < jfr h' 111 q) ∧ ∀ r w, StR h r w → StR h' r w
theorem PFr.rf (h : JH) (p s : Nat) : PFr h h p s := ⟨fr.rf _ _ _, rfl, Or.inl rfl, ⟨Nat.le_refl _, fun _ => Or.inl rfl⟩, fun _ _ z => z⟩
theorem PFr.tr {a b c : JH} {p s : Nat} (h1 : PFr a b p s) (h2 : PFr b c p s) : PFr a c p s := by
  obtain ⟨a1, a2, a3, ⟨a5, a7⟩, a6⟩ := h1
  obtain ⟨b1, b2, b3, ⟨b5, b7⟩, b6⟩ := h2
  refine ⟨fun q hq hM => ?_, b2.trans a2, ?_, ⟨by omega, fun q => ?_⟩, fun r w z => b6 r w (a6 r w z)⟩
  · have s1 := a1 q hq hM
    refine s1.tr (b1 q (by omega) fun z => hM ?_)
    rcases z with z | z | z | z | z
    · exact Or.inl z
    · exact Or.inr (Or.inl z)
    · exact Or.inr (Or.inr (Or.inl (z.trans a2)))
    · rw [a2] at z
      rcases a3 with e | e
      · exact Or.inr (Or.inr (Or.inr (Or.inl (z.trans e))))
      · omega
    · rw [s1.kd] at z; exact Or.inr (Or.inr (Or.inr (Or.inr z)))
  · rw [a2] at b3
    rcases b3 with e | e
    · rw [e]; exact a3
    · exact Or.inr (by omega)
  · rcases b7 q with e | e
    · rw [e]; exact a7 q
    · exact Or.inr (by omega)
theorem SgF.str {D : JD} {h h' : JH} {s n m r : Nat} {w : Str} (hI : JInv D h) (hs : jkd h s = 15) (hf : SgF h h' s n m) (hr : StR h r w) : StR h' r w := by
  have hl := hr.lt hI
  have k1 : jkd h r = 12 ∨ jkd h r = 51 := hr.2.1
  have k2 : jkd h (jfr h 75 r) = 66 ∨ jkd h (jfr h 75 r) = 219 := hr.2.2.2.2.1
  have lit : ∀ q, q ≠ 0 → q = jfr h 90 s → jkd h q = 100 := fun q h0 e => by rw [e]; exact hI.ref (F := 90) (by decide +kernel) (e ▸ h0)
  have txt : ∀ q, q ≠ 0 → q = jfr h 67 (jfr h 90 s) → jkd h q = 144 := fun q h0 e => by rw [e]; exact hI.ref (F := 67) (by decide +kernel) (e ▸ h0)
  refine hr.of (hf.1 _ hl.1 ?_) (hf.1 _ hl.2 ?_)
  · rintro (z | z | z)
    · rw [z, hs] at k1; omega
    · rw [lit r hr.1 z] at k1; omega
    · rw [txt r hr.1 z] at k1; omega
  · rintro (z | z | z)
    · rw [z, hs] at k2; omega
    · rw [lit _ hr.2.2.2.1 z] at k2; omega
    · rw [txt _ hr.2.2.2.1 z] at k2; omega
theorem SgF.pf {D : JD} {h h' : JH} {p s n m : Nat} (hI : JInv D h) (hs : jkd h s = 15) (hf : SgF h h' s n m) : PFr h h' p s := by
  refine ⟨hf.1.mono (Nat.le_refl _) fun q _ z => ?_, hf.2.1, hf.2.2.1, ⟨hf.2.2.2.2.1, fun q => Or.inl (hf.2.2.2.2.2.2.2 111 q (by decide))⟩, fun r w z => hf.str hI hs z⟩
  rcases z with z | z | z
  · exact Or.inr (Or.inl z)
  · exact Or.inr (Or.inr (Or.inl z))
  · exact Or.inr (Or.inr (Or.inr (Or.inl z)))
/-- only what is new has changed, or an object r that was new -/
theorem PFr.fresh {D : JD} {h0 h h' : JH} {p s r : Nat} (hI : JInv D h) (h1 : PFr h0 h p s) (hr : jsz h0 < r) (hf : fr (jsz h) (fun q => q = r) h h') (hz : jsz h ≤ jsz h') (hs0 : s ≤ jsz h0) (hl0 : jfr h0 90 s ≤ jsz h0) (hk : jkd h r ≠ 12 ∧ jkd h r ≠ 51 ∧ jkd h r ≠ 66 ∧ jkd h r ≠ 219) (hI' : JInv D h0) (h111 : ∀ q, jfr h' 111 q = jfr h 111 q ∨ jsz h0 < jfr h' 111 q) : PFr h0 h' p s := by
  obtain ⟨a1, a2, a3, ⟨a5, a7⟩, a6⟩ := h1
  have lt0 : ∀ q, q ≤ jsz h0 → same h h' q := fun q hq => hf q (by omega) (by omega)
  refine ⟨fun q hq hM => (a1 q hq hM).tr (lt0 q hq), by rw [(lt0 s hs0).fr, a2], ?_, ⟨by omega, fun q => ?_⟩, fun q w z => ?_⟩
  · rw [(lt0 _ hl0).fr]; exact a3
  · rcases h111 q with e | e
    · rw [e]; exact a7 q
    · exact Or.inr e
  · have z1 := a6 q w z
    have hl := z1.lt hI
    refine z1.of (hf q hl.1 fun e => ?_) (hf _ hl.2 fun e => ?_)
    · have := z1.2.1; rw [e] at this; omega
    · have := z1.2.2.2.2.1; rw [e] at this; omega
theorem JInv.refP {D : JD} {h : JH} (hI : JInv D h) {F r : Nat} (P : Nat → Bool) (hk : (List.range 226).all (fun j => !(sbt j (ftg F)) || P j) = true) (hr : jfr h F r ≠ 0) : P (jkd h (jfr h F r)) = true := by
  have hs := Or.resolve_left (hI.2.2.1 F r) hr
  have := List.all_eq_true.mp hk _ (List.mem_range.mpr (sbt_lt hs))
  simpa only [hs, Bool.not_true, Bool.false_or] using this
theorem JInv.k111 {D : JD} {h : JH} (hI : JInv D h) {r : Nat} (hr : jfr h 111 r ≠ 0) : 30 ≤ jkd h (jfr h 111 r) ∧ jkd h (jfr h 111 r) ≠ 100 ∧ jkd h (jfr h 111 r) ≠ 144 := by
  have := hI.refP (F := 111) (r := r) (fun k => Nat.ble 30 k && (!(Nat.beq k 100) && !(Nat.beq k 144))) (by decide +kernel) hr
  simp only [Bool.and_eq_true, Nat.ble_eq, Bool.not_eq_true'] at this
  exact ⟨this.1, fun e => (by rw [e] at this; exact absurd this.2.1 (by decide)), fun e => (by rw [e] at this; exact absurd this.2.2 (by decide))⟩
/-! nodes -/
def nkd (n : Nod) : Nat := match ndO n with
  | 0 => 25
  | 1 => 20
  | 2 => 24
  | 3 => if ndK n = 1 ∨ tGather (ndS n) = true then 22 else 23
  | 4 => 21
  | 5 => 29
  | 7 => 29
  | 8 => 28
  | 12 => 26
  | 13 => 26
  | _ => 27
def opN (n : Nod) : Nat := match ndO n with
  | 6 => 370
  | 9 => 364 + ndK n
  | 10 => 371
  | 11 => 372
  | _ => [361, 362, 358, 359, 360, 363].getD (ndK n) 361
def npt (n : Nod) (k : Nat) : Nat := (ndP n).getD k 0
def OStR (h : JH) (r : Nat) (o : Option Str) : Prop := match o with
  | none => r = 0
  | some w => StR h r w
/-- the parts of the node r -/
def PtsR (h : JH) (ρ : Nat → Nat) (r : Nat) (l : List Nat) : Prop :=
  jfr h 111 r ≠ 0 ∧ jkd h (jfr h 111 r) = 222 ∧ jfi h 112 r = nI l.length ∧ l.length ≤ jln h (jfr h 111 r) ∧ jln h (jfr h 111 r) ≤ 40 ∧ ∀ i x, l[i]? = some x → jar h (jfr h 111 r) i = ρ x
def NodF (D : JD) (h : JH) (ρ : Nat → Nat) (n : Nod) (r : Nat) : Prop :=
  (ndO n = 0 → jfr h 109 r = tyc D (ndV n).1 ∧ Cel D h (jfr h 108 r) (ndV n)) ∧
  (ndO n = 1 → jfi h 110 r = nI (ndK n + 1)) ∧
  (ndO n = 2 → StR h (jfr h 118 r) (ndS n) ∧ OStR h (jfr h 117 r) (ndF n)) ∧
  (ndO n = 3 → (nkd n = 22 → StR h (jfr h 113 r) (ndS n) ∧ jfi h 114 r = nI (ndK n) ∧ CelW D h (jfr h 115 r)) ∧ (nkd n = 23 → StR h (jfr h 116 r) (ndS n))) ∧
  ((ndO n = 3 ∨ ndO n = 4 ∨ ndO n = 5 ∨ ndO n = 7) → PtsR h ρ r (ndP n)) ∧
  (ndO n = 5 → jfi h 128 r = 0) ∧ (ndO n = 7 → jfi h 128 r = 1) ∧
  ((ndO n = 6 ∨ ndO n = 9 ∨ ndO n = 10 ∨ ndO n = 11 ∨ ndO n = 14) → jfr h 123 r = jcs D (opN n) ∧ jfr h 124 r = ρ (npt n 0) ∧ jfr h 125 r = ρ (npt n 1)) ∧
  (ndO n = 8 → jfr h 126 r = ρ (npt n 0) ∧ jfi h 127 r = nI (ndK n) ∧ jfr h 109 r = tyc D 16) ∧
  ((ndO n = 12 ∨ ndO n = 13) → jfi h 121 r = (if ndO n = 12 then 1 else 0) ∧ jfr h 122 r = ρ (npt n 0))
def NodR (D : JD) (h : JH) (ρ : Nat → Nat) (n : Nod) (r : Nat) : Prop := r ≠ 0 ∧ jkd h r = nkd n ∧ CelW D h (jfr h 108 r) ∧ NodF D h ρ n r
def TreeR (D : JD) (h : JH) (A : List Nod) (ρ : Nat → Nat) : Prop := ∀ i, i < A.length → NodR D h ρ (nat_ A i) (ρ i)
/-- a node with its cells, characters and parts is as it was -/
def Keep (h h' : JH) (r : Nat) : Prop :=
  same h h' r ∧ (∀ F, (F = 108 ∨ F = 115) → jfr h F r ≠ 0 → same h h' (jfr h F r) ∧ (jfr h 67 (jfr h F r) ≠ 0 → same h h' (jfr h 67 (jfr h F r)))) ∧ (jfr h 111 r ≠ 0 → jkd h (jfr h 111 r) = 222 → same h h' (jfr h 111 r)) ∧ ∀ q w, StR h q w → StR h' q w
theorem NodR.of {D : JD} {h h' : JH} {ρ : Nat → Nat} {n : Nod} {r : Nat} (k : NodR D h ρ n r) (s : Keep h h' r) : NodR D h' ρ n r := by
  obtain ⟨k1, k2, k3, f0, f1, f2, f3, f4, f5, f6, f7, f8, f9⟩ := k
  obtain ⟨s1, s2, s3, s4⟩ := s
  have c8 := s2 108 (Or.inl rfl) k3.1
  refine ⟨k1, by rw [s1.kd]; exact k2, by rw [s1.fr]; exact k3.of c8.1 c8.2, ?_⟩
  refine ⟨fun e => ?_, fun e => by rw [s1.fi]; exact f1 e, fun e => ?_, fun e => ⟨fun z => ?_, fun z => ?_⟩, fun e => ?_, fun e => by rw [s1.fi]; exact f5 e, fun e => by rw [s1.fi]; exact f6 e, fun e => by rw [s1.fr, s1.fr, s1.fr]; exact f7 e, fun e => by rw [s1.fr, s1.fi, s1.fr]; exact f8 e, fun e => by rw [s1.fr, s1.fi]; exact f9 e⟩
  · rw [s1.fr, s1.fr]; exact ⟨(f0 e).1, (f0 e).2.of c8.1 c8.2⟩
  · rw [s1.fr, s1.fr]
    refine ⟨s4 _ _ (f2 e).1, ?_⟩
    have := (f2 e).2
    revert this
    cases ndF n with
    | none => exact fun z => z
    | some w => exact fun z => s4 _ _ z
  · obtain ⟨a, b, c⟩ := (f3 e).1 z
    have c5 := s2 115 (Or.inr rfl) c.1
    rw [s1.fr, s1.fr, s1.fi]; exact ⟨s4 _ _ a, b, c.of c5.1 c5.2⟩
  · rw [s1.fr]; exact s4 _ _ ((f3 e).2 z)
  · obtain ⟨p1, p2, p3, p4, p5, p6⟩ := f4 e
    have sp := s3 p1 p2
    unfold PtsR
    rw [s1.fr, s1.fi, sp.kd, sp.ln]
    exact ⟨p1, p2, p3, p4, p5, fun i x hx => by rw [sp.ar]; exact p6 i x hx⟩
theorem nkd_ex (n : Nod) : 20 ≤ nkd n ∧ nkd n ≤ 29 := by
  unfold nkd
  split
  all_goals first | omega | (split <;> omega)
theorem NodR.lt {D : JD} {h : JH} {ρ : Nat → Nat} {n : Nod} {r : Nat} (hI : JInv D h) (k : NodR D h ρ n r) : r ≤ jsz h := hI.lt (by rw [k.2.1]; have := nkd_ex n; omega)
/-- nodes are as they were where the parser has gone on -/
theorem NodR.keepP {D : JD} {h h' : JH} {p s : Nat} {ρ : Nat → Nat} {n : Nod} {r : Nat} (hI : JInv D h) (o : OW h) (hp : jkd h p = 14) (hs : jkd h s = 15) (f : PFr h h' p s) (k : NodR D h ρ n r) : Keep h h' r := by
  have hk := nkd_ex n
  have ck : ∀ F, (F = 108 ∨ F = 115) → jfr h F r ≠ 0 → jkd h (jfr h F r) = 98 ∨ jkd h (jfr h F r) = 99 := by
    rintro F (rfl | rfl) h0
    · exact Or.inl (hI.ref (F := 108) (by decide +kernel) h0)
    · exact Or.inr (hI.ref (F := 115) (by decide +kernel) h0)
  have lit : jfr h 90 s ≠ 0 → jkd h (jfr h 90 s) = 100 := fun h0 => hI.ref (F := 90) (by decide +kernel) h0
  have txt : ∀ q, jfr h 67 q ≠ 0 → jkd h (jfr h 67 q) = 144 := fun q h0 => hI.ref (F := 67) (by decide +kernel) h0
  have main : ∀ q, q ≠ 0 → q ≤ jsz h → jkd h q ≠ 14 → jkd h q ≠ 15 → jkd h q ≠ 100 → jkd h q ≠ 144 → jkd h q ≠ 12 → same h h' q := by
    intro q q0 ql n1 n2 n3 n4 n5
    refine f.1 q ql ?_
    rintro (z | z | z | z | z)
    · exact n1 (z ▸ hp)
    · exact n2 (z ▸ hs)
    · exact n3 (by rw [z]; exact lit (z ▸ q0))
    · exact n4 (by rw [z]; exact txt _ (z ▸ q0))
    · exact n5 z
  have k2 := k.2.1
  refine ⟨main r k.1 (k.lt hI) (by omega) (by omega) (by omega) (by omega) (by omega), fun F hF h0 => ⟨?_, fun h1 => ?_⟩, fun h0 _ => ?_, f.2.2.2.2⟩
  · have := ck F hF h0
    exact main _ h0 hI.refl (by omega) (by omega) (by omega) (by omega) (by omega)
  · have c9 := ck F hF h0
    have t4 := txt _ h1
    refine f.1 _ hI.refl ?_
    rintro (z | z | z | z | z)
    · rw [z, hp] at t4; omega
    · rw [z, hs] at t4; omega
    · rw [z, lit (z ▸ h1)] at t4; omega
    · have := o 67 _ _ (Or.inl rfl) z h1
      rw [this] at c9 h0
      rw [lit h0] at c9
      omega
    · omega
  · have := hI.k111 h0
    exact main _ h0 hI.refl (by omega) (by omega) (by omega) (by omega) (by omega)
theorem TreeR.pf {D : JD} {h h' : JH} {p s : Nat} {A : List Nod} {ρ : Nat → Nat} (t : TreeR D h A ρ) (hI : JInv D h) (o : OW h) (hp : jkd h p = 14) (hs : jkd h s = 15) (f : PFr h h' p s) : TreeR D h' A ρ :=
  fun i hi => (t i hi).of ((t i hi).keepP hI o hp hs f)
/-- only the object r, which is no node yet, and new ones have changed -/
theorem NodR.keepR {D : JD} {h h' : JH} {ρ : Nat → Nat} {n : Nod} {r r' : Nat} (hI : JInv D h) (k : NodR D h ρ n r) (hf : fr (jsz h) (fun q => q = r') h h') (hz : jfr h 108 r' = 0) (hk : 20 ≤ jkd h r' ∧ jkd h r' ≤ 29) : Keep h h' r := by
  have nk := nkd_ex n
  have ne : ∀ q, q ≤ jsz h → jkd h q < 20 ∨ 29 < jkd h q → same h h' q := fun q ql z => hf q ql fun e => by rw [e] at z; omega
  refine ⟨hf r (k.lt hI) fun e => k.2.2.1.1 (e ▸ hz), fun F hF h0 => ⟨?_, fun h1 => ?_⟩, fun h0 _ => ?_, fun q w z => ?_⟩
  · rcases hF with rfl | rfl
    · have : jkd h (jfr h 108 r) = 98 := hI.ref (F := 108) (by decide +kernel) h0
      exact ne _ hI.refl (by omega)
    · have : jkd h (jfr h 115 r) = 99 := hI.ref (F := 115) (by decide +kernel) h0
      exact ne _ hI.refl (by omega)
  · have : jkd h (jfr h 67 (jfr h F r)) = 144 := hI.ref (F := 67) (by decide +kernel) h1
    exact ne _ hI.refl (by omega)
  · have := hI.k111 h0
    exact ne _ hI.refl (by omega)
  · have hl := z.lt hI
    have z1 := z.2.1
    have z2 := z.2.2.2.2.1
    exact z.of (ne q hl.1 (by omega)) (ne _ hl.2 (by omega))
theorem TreeR.fresh {D : JD} {h h' : JH} {A : List Nod} {ρ : Nat → Nat} {r' : Nat} (t : TreeR D h A ρ) (hI : JInv D h) (hf : fr (jsz h) (fun q => q = r') h h') (hz : jfr h 108 r' = 0) (hk : 20 ≤ jkd h r' ∧ jkd h r' ≤ 29) : TreeR D h' A ρ :=
  fun i hi => (t i hi).of ((t i hi).keepR hI hf hz hk)
/-- only new objects -/
theorem fr_none {h h' : JH} {n r : Nat} (hf : fr n (fun _ => False) h h') : fr n (fun q => q = r) h h' := hf.mono (Nat.le_refl _) fun _ _ z => z.elim
/-- the numbering goes on with r -/
def rup (ρ : Nat → Nat) (n r : Nat) : Nat → Nat := fun i => if i = n then r else ρ i
theorem rup_eq (ρ : Nat → Nat) (n r : Nat) : rup ρ n r n = r := if_pos rfl
theorem rup_lt {ρ : Nat → Nat} {n r i : Nat} (h : i < n) : rup ρ n r i = ρ i := if_neg (by omega)
theorem PtsR.ext {h : JH} {ρ ρ' : Nat → Nat} {r : Nat} {l : List Nat} (k : PtsR h ρ r l) (e : ∀ x ∈ l, ρ' x = ρ x) : PtsR h ρ' r l :=
  ⟨k.1, k.2.1, k.2.2.1, k.2.2.2.1, k.2.2.2.2.1, fun i x hx => by rw [k.2.2.2.2.2 i x hx, e x (List.mem_of_getElem? hx)]⟩
theorem npt_mem {n : Nod} {k : Nat} (h : k < (ndP n).length) : npt n k ∈ ndP n := by
  unfold npt
  rw [List.getD_eq_getElem?_getD, List.getElem?_eq_getElem h]
  exact List.getElem_mem h
theorem Shp.two {n : Nod} (hs : Shp n) (z : ndO n = 6 ∨ ndO n = 9 ∨ ndO n = 10 ∨ ndO n = 11 ∨ ndO n = 14) : (ndP n).length = 2 := by
  rcases hs with h | h | h | h | h | h | h | h | h | h | h | h | h
  all_goals first | exact h.2.2 | (exfalso; have := h.1; omega)
theorem Shp.one {n : Nod} (hs : Shp n) (z : ndO n = 8 ∨ ndO n = 12 ∨ ndO n = 13) : (ndP n).length = 1 := by
  rcases hs with h | h | h | h | h | h | h | h | h | h | h | h | h
  all_goals first | exact h.2.2 | (exfalso; have := h.1; omega)
theorem NodR.ext {D : JD} {h : JH} {ρ ρ' : Nat → Nat} {n : Nod} {r : Nat} (k : NodR D h ρ n r) (hs : Shp n) (e : ∀ x ∈ ndP n, ρ' x = ρ x) : NodR D h ρ' n r := by
  obtain ⟨k1, k2, k3, f0, f1, f2, f3, f4, f5, f6, f7, f8, f9⟩ := k
  refine ⟨k1, k2, k3, f0, f1, f2, f3, fun z => (f4 z).ext e, f5, f6, fun z => ?_, fun z => ?_, fun z => ?_⟩
  · have hl := hs.two z
    rw [e _ (npt_mem (by omega)), e _ (npt_mem (by omega))]; exact f7 z
  · have hl := hs.one (Or.inl z)
    rw [e _ (npt_mem (by omega))]; exact f8 z
  · have hl := hs.one (Or.inr z)
    rw [e _ (npt_mem (by omega))]; exact f9 z
/-- one node more -/
theorem TreeR.add {D : JD} {h : JH} {A : List Nod} {ρ : Nat → Nat} {n : Nod} {r : Nat} (t : TreeR D h A ρ) (hA : NOK A) (k : NodR D h ρ n r) (hs : Shp n) (hp : ∀ x ∈ ndP n, x < A.length) : TreeR D h (A ++ [n]) (rup ρ A.length r) := by
  intro i hi
  rw [List.length_append, List.length_singleton] at hi
  by_cases e : i < A.length
  · rw [nat_ext e, rup_lt e]
    refine (t i e).ext (hA i e).2.2.1 fun x hx => rup_lt ?_
    have := ((hA i e).2.1.lt.2 x hx).1
    omega
  · have : i = A.length := by omega
    subst this
    rw [nat_last, rup_eq]
    exact k.ext hs fun x hx => rup_lt (hp x hx)
