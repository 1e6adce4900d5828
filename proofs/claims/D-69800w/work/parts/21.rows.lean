/-! locals by place -/
theorem mem_jasc {l : List (Option JV)} {n : Nat} {q : Nat × Value} : q ∈ jasc n l ↔ ∃ k v, q.1 = n + k ∧ l[k]? = some (some v) ∧ q.2 = vv v := by
  induction l generalizing n with
  | nil => simp [jasc]
  | cons a l ih =>
    cases a with
    | none =>
      rw [jasc, ih]
      constructor
      · rintro ⟨k, v, h1, h2, h3⟩
        exact ⟨k + 1, v, by omega, by simpa using h2, h3⟩
      · rintro ⟨k, v, h1, h2, h3⟩
        cases k with
        | zero => simp at h2
        | succ k => exact ⟨k, v, by omega, by simpa using h2, h3⟩
    | some w =>
      rw [jasc, List.mem_cons, ih]
      constructor
      · rintro (rfl | ⟨k, v, h1, h2, h3⟩)
        · exact ⟨0, w, rfl, rfl, rfl⟩
        · exact ⟨k + 1, v, by omega, by simpa using h2, h3⟩
      · rintro ⟨k, v, h1, h2, h3⟩
        cases k with
        | zero =>
          simp at h2
          subst h2
          exact Or.inl (Prod.ext (by simpa using h1) h3)
        | succ k => exact Or.inr ⟨k, v, by omega, by simpa using h2, h3⟩
theorem jasc_at {A : Array Slot} {n i : Nat} {l : List (Option JV)} {v : JV} (h : lv_has A n (jasc 0 l)) (hi : l[i]? = some (some v)) : A[i]? = some (.val (vv v)) :=
  h.2.2 (i, vv v) (mem_jasc.mpr ⟨i, v, by simp, hi, rfl⟩)
def jclr (l : List (Option JV)) : Nat → List (Option JV)
  | 0 => l
  | i + 1 => match l[i]? with
    | some (some (.inr (.inl _))) => l.set i none
    | _ => l
def jst1 (l : List (Option JV)) (i : Nat) (v : JV) : List (Option JV) := (jclr l i).set i (some v)
def jst2 (l : List (Option JV)) (i : Nat) (v : JV) : List (Option JV) := ((jclr l i).set i (some v)).set (i + 1) none
theorem jclr_at {l : List (Option JV)} {i k : Nat} {v : JV} (h : (jclr l i)[k]? = some (some v)) : l[k]? = some (some v) ∧ ¬ (k + 1 = i ∧ jct v = 2) := by
  cases i with
  | zero => exact ⟨h, by omega⟩
  | succ i =>
    simp only [jclr] at h
    split at h
    · rename_i x hx
      rw [List.getElem?_set] at h
      split at h
      · split at h <;> simp at h
      · rename_i hne
        exact ⟨h, fun e => hne (by omega)⟩
    · rename_i hx
      refine ⟨h, fun e => ?_⟩
      obtain ⟨e1, e2⟩ := e
      have hk : k = i := by omega
      subst hk
      rcases v with x | x | ⟨t, r⟩
      · simp [jct] at e2
      · exact hx x h
      · simp [jct] at e2
theorem jst1_mem {l : List (Option JV)} {i : Nat} {v : JV} {q : Nat × Value} (h : q ∈ jasc 0 (jst1 l i v)) : q = (i, vv v) ∨ (q ∈ jasc 0 l ∧ q.1 ≠ i ∧ ¬ (q.1 + 1 = i ∧ q.2.category = 2)) := by
  obtain ⟨k, w, h1, h2, h3⟩ := mem_jasc.mp h
  rw [jst1, List.getElem?_set] at h2
  split at h2
  · split at h2
    · rename_i e _
      simp at h2
      subst h2
      exact Or.inl (Prod.ext (by simp [h1, e]) h3)
    · simp at h2
  · rename_i hne
    obtain ⟨a, b⟩ := jclr_at h2
    refine Or.inr ⟨mem_jasc.mpr ⟨k, w, h1, a, h3⟩, by simp at h1; omega, fun e => b ⟨by simp at h1; omega, ?_⟩⟩
    rw [← vv_cat, ← h3]; exact e.2
theorem jst2_mem {l : List (Option JV)} {i : Nat} {v : JV} {q : Nat × Value} (h : q ∈ jasc 0 (jst2 l i v)) : q = (i, vv v) ∨ (q ∈ jasc 0 l ∧ q.1 ≠ i ∧ q.1 ≠ i + 1 ∧ ¬ (q.1 + 1 = i ∧ q.2.category = 2)) := by
  obtain ⟨k, w, h1, h2, h3⟩ := mem_jasc.mp h
  rw [jst2, List.getElem?_set] at h2
  split at h2
  · split at h2 <;> simp at h2
  · rename_i hne
    rw [List.getElem?_set] at h2
    split at h2
    · split at h2
      · rename_i e _
        simp at h2
        subst h2
        exact Or.inl (Prod.ext (by simp [h1, e]) h3)
      · simp at h2
    · rename_i hne2
      obtain ⟨a, b⟩ := jclr_at h2
      refine Or.inr ⟨mem_jasc.mpr ⟨k, w, h1, a, h3⟩, by simp at h1; omega, by simp at h1; omega, fun e => b ⟨by simp at h1; omega, ?_⟩⟩
      rw [← vv_cat, ← h3]; exact e.2
theorem jclr_sub {l : List (Option JV)} {i : Nat} {v : JV} (h : some v ∈ jclr l i) : some v ∈ l := by
  obtain ⟨k, hk⟩ := List.getElem?_of_mem h
  exact List.mem_of_getElem? (jclr_at hk).1
theorem jst1_sub {l : List (Option JV)} {i : Nat} {v w : JV} (h : some w ∈ jst1 l i v) : w = v ∨ some w ∈ l := by
  rcases List.mem_or_eq_of_mem_set h with q | q
  · exact Or.inr (jclr_sub q)
  · exact Or.inl (Option.some.inj q)
theorem jst2_sub {l : List (Option JV)} {i : Nat} {v w : JV} (h : some w ∈ jst2 l i v) : w = v ∨ some w ∈ l := by
  rcases List.mem_or_eq_of_mem_set h with q | q
  · rcases List.mem_or_eq_of_mem_set q with q | q
    · exact Or.inr (jclr_sub q)
    · exact Or.inl (Option.some.inj q)
  · cases q
section JS
variable {D : JD} {d : Nat} {M : JM} {pc pc' : Nat} {ls ls' : List (Option JV)} {st st' : List JV} {h : JH} {Q : JO → JH → Prop}
theorem jw_sil (hok : ∀ v, (v ∈ st' ∨ some v ∈ ls') → (v ∈ st ∨ some v ∈ ls ∨ jok h v))
    (f : ∀ (p : Program) (l : Launch) (e : Env) (R : Room) (s : State) (m : MethodId) (args : Array Value) (below : List Frame) (meth : Method) (c : Code) (H : Heap) (locs : List Loc) (cells slots : Nat) (Z : State → Prop) (lsA : Array Slot),
      JFr D M l p s m meth c → lv_has lsA (jmL M) (jasc 0 ls) → (∀ lsB, lv_has lsB (jmL M) (jasc 0 ls') → W p l e R s m args below meth c H locs cells slots Z (F0 m pc' lsB (st'.map vv))) → W p l e R s m args below meth c H locs cells slots Z (F0 m pc lsA (st.map vv)))
    (k : JW D d M pc' ls' st' h Q) : JW D d M pc ls st h Q := by
  intro hI hl hs
  have hl' : ∀ v, some v ∈ ls' → jok h v := fun v hv => by
    rcases hok v (Or.inr hv) with q | q | q
    · exact hs v q
    · exact hl v q
    · exact q
  have hs' : ∀ v ∈ st', jok h v := fun v hv => by
    rcases hok v (Or.inl hv) with q | q | q
    · exact hs v q
    · exact hl v q
    · exact q
  obtain ⟨r, h', hx, hq⟩ := k hI hl' hs'
  refine ⟨r, h', fun _ _ _ => ?_, hq⟩
  obtain ⟨a, b⟩ := hx hI hl' hs'
  refine ⟨a, fun p l e R s m args below meth c H locs c0 u0 K lsA hF hR hL h1 h2 h3 h4 h5 h6 h7 h8 => ?_⟩
  exact f p l e R s m args below meth c H locs _ _ _ lsA hF hL fun lsB hB => b p l e R s m args below meth c H locs c0 u0 K lsB hF hR hB h1 h2 h3 h4 h5 h6 h7 h8
/-- a step that takes n signs of the stack, lays some ints or longs, keeps the locals -/
theorem jw_op (hok : ∀ v ∈ st', v ∈ st ∨ some v ∈ ls ∨ jok h v)
    (f : ∀ (p : Program) (l : Launch) (e : Env) (R : Room) (s : State) (m : MethodId) (args : Array Value) (below : List Frame) (meth : Method) (c : Code) (H : Heap) (locs : List Loc) (cells slots : Nat) (Z : State → Prop) (lsA : Array Slot),
      p.tables.exec = Jvm.exec → c.code = jmC M → (∀ pc x, jmT M pc = some x → decode (jmC M) pc = .ok x) → lv_has lsA (jmL M) (jasc 0 ls) → W p l e R s m args below meth c H locs cells slots Z (F0 m pc' lsA (st'.map vv)) → W p l e R s m args below meth c H locs cells slots Z (F0 m pc lsA (st.map vv)))
    (k : JW D d M pc' ls st' h Q) : JW D d M pc ls st h Q :=
  jw_sil (fun v hv => by
    rcases hv with q | q
    · exact hok v q
    · exact Or.inr (Or.inl q)) (fun p l e R s m args below meth c H locs cells slots Z lsA hF hL kk => f p l e R s m args below meth c H locs cells slots Z lsA hF.1 hF.2.2.2.2.1 hF.2.2.2.1.1 hL (kk lsA hL)) k
end JS
