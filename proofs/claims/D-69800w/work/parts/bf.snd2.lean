/-! values have the types that were found: trees -/
theorem mapM_get {α β : Type} {f : α → Ex β} : ∀ {l : List α} {xs : List β}, l.mapM f = .ok xs → ∀ (j : Nat) (p : α), l[j]? = some p → ∃ x, xs[j]? = some x ∧ f p = .ok x
  | [], xs, h, j, p, e => by simp at e
  | a :: l, xs, h, j, p, e => by
    rw [List.mapM_cons] at h
    cases ha : f a with
    | error c => rw [ha] at h; cases h
    | ok y =>
      rw [ha] at h
      have h : (l.mapM f >>= fun ys => pure (y :: ys)) = Except.ok xs := h
      cases hl : l.mapM f with
      | error c => rw [hl] at h; cases h
      | ok ys =>
        rw [hl] at h
        cases h
        cases j with
        | zero =>
          rw [List.getElem?_cons_zero] at e
          cases e
          exact ⟨y, rfl, ha⟩
        | succ j =>
          rw [List.getElem?_cons_succ] at e
          obtain ⟨x, x1, x2⟩ := mapM_get hl j p e
          exact ⟨x, by rw [List.getElem?_cons_succ]; exact x1, x2⟩
theorem fnd_mem {ss : List (Str × Tab)} {of : Option Str} {s : Str} {q : Nat × Nat} (h : q ∈ tFound ss of s) : ∃ tb, ss[q.1]? = some tb ∧ tColOf tb.2.2.1 s = some q.2 := by
  unfold tFound at h
  obtain ⟨x, x1, x2⟩ := List.mem_filterMap.mp h
  obtain ⟨tb, k⟩ := x
  have e := List.mem_zipIdx_iff_getElem?.mp x1
  dsimp only at x2
  split at x2
  · cases hc : tColOf tb.2.2.1 s with
    | none => rw [hc] at x2; cases x2
    | some c =>
      rw [hc] at x2
      cases x2
      exact ⟨tb, e, hc⟩
  · cases x2
theorem tColumn_one {E : TEnv} {of : Option Str} {s : Str} {q : Nat × Nat} (h : tColumn E of s = .ok q) : tFound E.1 of s = [q] := by
  unfold tColumn at h
  obtain ⟨u, _, h⟩ := bnd h
  have h : (match tFound E.1 of s with
    | [] => xErr "42703"
    | [q] => .ok q
    | _ => xErr "42702") = Except.ok q := h
  revert h
  cases tFound E.1 of s with
  | nil => intro z; cases z
  | cons a l =>
    cases l with
    | nil => intro z; cases z; rfl
    | cons b l => intro z; cases z
theorem jby_ch : ∀ c : Int32, 32 ≤ c → c ≤ 126 → jby c := fun c h1 h2 => by
  have a : (32 : Int) ≤ c.toInt := Int32.le_iff_toInt_le.mp h1
  have b : c.toInt ≤ (126 : Int) := Int32.le_iff_toInt_le.mp h2
  unfold jby
  refine Int32.toInt_inj.mp ?_
  rw [Int8.toInt_toInt32, Int32.toInt_toInt8]
  exact Int.bmod_eq_of_le (by omega) (by omega)
theorem LitV.vw {v : Val} (k : LitV v) : VW v := by
  rcases k with rfl | ⟨b, rfl⟩ | ⟨n, rfl, h1, h2⟩ | ⟨s, rfl, h1, h2⟩
  · exact Or.inl rfl
  · exact Or.inr (Or.inl ⟨b, rfl⟩)
  · refine Or.inr (Or.inr (Or.inl ⟨n, rfl, h2, Int64.le_trans (by decide) h1⟩))
  · exact Or.inr (Or.inr (Or.inr ⟨s, rfl, h1, fun c hc => jby_ch c (h2 c hc).1 (h2 c hc).2⟩))
/-- rows and parameters have the types of their columns -/
def RowOk (E : TEnv) (R : TRow) : Prop := ∀ (k : Nat) t r, E.1[k]? = some t → (R[k]?).join = some r → ∀ (c : Nat) (col : Col), t.2.2.1[c]? = some col → VT col.2.1 (r.getD c vNull)
def PvOk (E : TEnv) (pv : List Val) : Prop := ∀ (k t : Nat), E.2.1[k]? = some t → VT t (pv.getD k vNull)
theorem VT.num {v : Val} (k : VT 20 v) (h : v.1 ≠ 0) : ∃ n : Int64, v = vNum n ∧ n ≤ sMost ∧ -sMost ≤ n := k.1.num (k.2.resolve_left h)
theorem VT.txt {v : Val} (k : VT 25 v) (h : v.1 ≠ 0) : ∃ s : Str, v = vTxt s ∧ s.length ≤ 40 ∧ ∀ c ∈ s, jby c := k.1.txt (k.2.resolve_left h)
theorem vt_or {a b : Val} (h : ¬ (a.1 == 0 || b.1 == 0) = true) : a.1 ≠ 0 ∧ b.1 ≠ 0 := by
  simp only [Bool.or_eq_true, beq_iff_eq] at h
  exact ⟨fun z => h (Or.inl z), fun z => h (Or.inr z)⟩
theorem worked_vt {k : Nat} {a b v : Val} (e : vWorked k a b = .ok v) (hk : k ≤ 5) (ha : VT (if k = 5 then 25 else 20) a) (hb : VT (if k = 5 then 25 else 20) b) : VT (if k = 5 then 25 else 20) v := by
  by_cases hn : (a.1 == 0 || b.1 == 0) = true
  · unfold vWorked at e
    rw [if_pos hn] at e
    cases e; exact VT.null _
  · unfold vWorked at e
    rw [if_neg hn] at e
    obtain ⟨n1, n2⟩ := vt_or hn
    rcases (show k = 0 ∨ k = 1 ∨ k = 2 ∨ k = 3 ∨ k = 4 ∨ k = 5 by omega) with rfl | rfl | rfl | rfl | rfl | rfl
    · exact (VT.xnum e).1
    · exact (VT.xnum e).1
    · have e : (if (a.2.1 == 0 || sAbs b.2.1 ≤ sMost / sAbs a.2.1) = true then xNum (a.2.1 * b.2.1) else xErr "22003") = .ok v := e
      split at e
      · exact (VT.xnum e).1
      · cases e
    · have e : (if (b.2.1 == 0) = true then xErr "22012" else xNum (a.2.1 / b.2.1)) = .ok v := e
      split at e
      · cases e
      · exact (VT.xnum e).1
    · have e : (if (b.2.1 == 0) = true then xErr "22012" else xNum (a.2.1 - a.2.1 / b.2.1 * b.2.1)) = .ok v := e
      split at e
      · cases e
      · exact (VT.xnum e).1
    · have e : xTxt (a.2.2 ++ b.2.2) = .ok v := e
      obtain ⟨s, rfl, s1, s2⟩ := VT.txt ha n1
      obtain ⟨u, rfl, u1, u2⟩ := VT.txt hb n2
      refine VT.xtxt e fun c hc => ?_
      rcases List.mem_append.mp hc with z | z
      · exact s2 c z
      · exact u2 c z
theorem piece_by {s : Str} {i n : Int64} (h : ∀ c ∈ s, jby c) : ∀ c ∈ vPiece s i n, jby c := fun c hc => by
  unfold vPiece at hc
  obtain ⟨q, q1, rfl⟩ := List.mem_map.mp hc
  have := (List.mem_filter.mp q1).1
  obtain ⟨a, b⟩ := q
  exact h a (List.mem_of_getElem? (List.mem_zipIdx_iff_getElem?.mp this))
theorem cased_by1 : ∀ x : Int32, jby x → (97 ≤ x && x ≤ 122) = true → jby (x - 32) := fun x hx h => by
  simp only [Bool.and_eq_true, decide_eq_true_eq] at h
  have a : (97 : Int) ≤ x.toInt := Int32.le_iff_toInt_le.mp h.1
  have b : x.toInt ≤ (122 : Int) := Int32.le_iff_toInt_le.mp h.2
  have e : (x - 32).toInt = x.toInt - 32 := by
    rw [Int32.toInt_sub]
    exact Int.bmod_eq_of_le (by show _ ≤ x.toInt - 32; omega) (by show x.toInt - 32 < _; omega)
  exact jby_ch _ (Int32.le_iff_toInt_le.mpr (by rw [e]; show (32 : Int) ≤ _; omega)) (Int32.le_iff_toInt_le.mpr (by rw [e]; show _ ≤ (126 : Int); omega))
theorem cased_by2 : ∀ x : Int32, jby x → (65 ≤ x && x ≤ 90) = true → jby (x + 32) := fun x hx h => by
  simp only [Bool.and_eq_true, decide_eq_true_eq] at h
  have a : (65 : Int) ≤ x.toInt := Int32.le_iff_toInt_le.mp h.1
  have b : x.toInt ≤ (90 : Int) := Int32.le_iff_toInt_le.mp h.2
  have e : (x + 32).toInt = x.toInt + 32 := by
    rw [Int32.toInt_add]
    exact Int.bmod_eq_of_le (by show _ ≤ x.toInt + 32; omega) (by show x.toInt + 32 < _; omega)
  exact jby_ch _ (Int32.le_iff_toInt_le.mpr (by rw [e]; show (32 : Int) ≤ _; omega)) (Int32.le_iff_toInt_le.mpr (by rw [e]; show _ ≤ (126 : Int); omega))
theorem cased_by {s : Str} {up : Bool} (h : ∀ c ∈ s, jby c) : ∀ c ∈ vCased up s, jby c := fun c hc => by
  unfold vCased at hc
  obtain ⟨x, x1, rfl⟩ := List.mem_map.mp hc
  cases up with
  | true =>
    show jby (if (97 ≤ x && x ≤ 122) = true then x - 32 else x)
    split
    · exact cased_by1 x (h x x1) (by assumption)
    · exact h x x1
  | false =>
    show jby (if (65 ≤ x && x ≤ 90) = true then x + 32 else x)
    split
    · exact cased_by2 x (h x x1) (by assumption)
    · exact h x x1
