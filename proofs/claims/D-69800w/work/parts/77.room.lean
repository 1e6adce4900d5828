/-! room: what may still be laid behind cells is counted beforehand -/
def ckd (k : Nat) : Bool := Nat.ble 96 k && Nat.ble k 102
def vkd (k : Nat) : Bool := Nat.ble 103 k && Nat.ble k 109
/-- whether the characters of the cell q are still to be made -/
def wq (h : JH) (q : Nat) : Nat := if (ckd (jkd h q) = true ∧ jfr h 67 q = 0) ∨ (vkd (jkd h q) = true ∧ jfr h 269 q = 0) then 1 else 0
def wsum (h : JH) : Nat → Nat
  | 0 => 0
  | n + 1 => wsum h n + wq h (n + 1)
def rc (h : JH) : Nat := jsz h + wsum h (jsz h)
def rs (h : JH) : Nat := jus h + 40 * wsum h (jsz h)
/-- at most n objects and m slots are spent -/
def Sp (h h' : JH) (n m : Int) : Prop := (rc h' : Int) ≤ rc h + n ∧ (rs h' : Int) ≤ rs h + m
theorem Sp.rf (h : JH) : Sp h h 0 0 := ⟨by omega, by omega⟩
theorem Sp.tr {a b c : JH} {n m n' m' : Int} (h1 : Sp a b n m) (h2 : Sp b c n' m') : Sp a c (n + n') (m + m') := by
  obtain ⟨a1, a2⟩ := h1
  obtain ⟨b1, b2⟩ := h2
  exact ⟨by omega, by omega⟩
theorem Sp.mono {a b : JH} {n m n' m' : Int} (h1 : Sp a b n m) (hn : n ≤ n') (hm : m ≤ m') : Sp a b n' m' := by
  obtain ⟨a1, a2⟩ := h1
  exact ⟨by omega, by omega⟩
theorem wq_le (h : JH) (q : Nat) : wq h q ≤ 1 := by unfold wq; split <;> omega
theorem wq_kd {h : JH} {q k : Nat} (e : jkd h q = k) (hk : (ckd k || vkd k) = false) : wq h q = 0 := by
  rw [Bool.or_eq_false_iff] at hk
  unfold wq
  rw [e, hk.1, hk.2]
  exact if_neg (by simp)
theorem wsum_mono {h h' : JH} : ∀ n, (∀ q, 1 ≤ q → q ≤ n → wq h' q ≤ wq h q) → wsum h' n ≤ wsum h n
  | 0, _ => Nat.le_refl _
  | n + 1, hq => Nat.add_le_add (wsum_mono n fun q h1 h2 => hq q h1 (by omega)) (hq (n + 1) (by omega) (Nat.le_refl _))
theorem wsum_ext (h : JH) (n : Nat) : ∀ k, wsum h (n + k) ≤ wsum h n + k
  | 0 => Nat.le_refl _
  | k + 1 => by
    have := wsum_ext h n k
    have w := wq_le h (n + k + 1)
    show wsum h (n + k) + wq h (n + k + 1) ≤ wsum h n + (k + 1)
    omega
theorem wsum_lt {h h' : JH} {c : Nat} (hc : wq h' c + 1 ≤ wq h c) : ∀ n, 1 ≤ c → c ≤ n → (∀ q, 1 ≤ q → q ≤ n → wq h' q ≤ wq h q) → wsum h' n + 1 ≤ wsum h n
  | 0, h1, h2, _ => by omega
  | n + 1, h1, h2, hq => by
    show wsum h' n + wq h' (n + 1) + 1 ≤ wsum h n + wq h (n + 1)
    by_cases e : c = n + 1
    · subst e
      have := wsum_mono n (fun q a b => hq q a (by omega))
      omega
    · have := wsum_lt hc n h1 (by omega) (fun q a b => hq q a (by omega))
      have := hq (n + 1) (by omega) (Nat.le_refl _)
      omega
/-- new objects count twice: they might be cells -/
theorem Sp.of {h h' : JH} {n m : Nat} (hq : ∀ q, 1 ≤ q → q ≤ jsz h → wq h' q ≤ wq h q) (h1 : jsz h ≤ jsz h') (h2 : jsz h' ≤ jsz h + n) (h3 : jus h' ≤ jus h + m) : Sp h h' (2 * n) (m + 40 * n) := by
  obtain ⟨k, hk⟩ : ∃ k, jsz h' = jsz h + k := ⟨jsz h' - jsz h, by omega⟩
  have a := wsum_ext h' (jsz h) k
  have b := wsum_mono (jsz h) hq
  unfold Sp rc rs
  rw [hk]
  constructor <;> omega
theorem wq_same {h h' : JH} {q : Nat} (s : same h h' q) : wq h' q = wq h q := by
  unfold wq; rw [s.kd, s.fr, s.fr]
/-- new objects whose kinds are no cells' count once -/
theorem Sp.new {h h' : JH} {n m : Nat} (hq : ∀ q, 1 ≤ q → q ≤ jsz h → wq h' q ≤ wq h q) (h1 : jsz h ≤ jsz h') (h2 : jsz h' ≤ jsz h + n) (h3 : jus h' ≤ jus h + m) (hk : ∀ q, jsz h < q → q ≤ jsz h' → wq h' q = 0) : Sp h h' n m := by
  have b := wsum_mono (jsz h) hq
  have c : ∀ k, jsz h + k ≤ jsz h' → wsum h' (jsz h + k) = wsum h' (jsz h) := by
    intro k
    induction k with
    | zero => intro _; rfl
    | succ k ih =>
      intro hl
      show wsum h' (jsz h + k) + wq h' (jsz h + k + 1) = _
      rw [ih (by omega), hk _ (by omega) (by omega)]; rfl
  have e := c (jsz h' - jsz h) (by omega)
  rw [show jsz h + (jsz h' - jsz h) = jsz h' by omega] at e
  unfold Sp rc rs
  rw [e]
  constructor <;> omega
section
variable {h : JH}
theorem Sp.fi {F r : Nat} {v : Int32} : Sp h (wfi h F r v) 0 0 := Sp.new (n := 0) (m := 0) (fun _ _ _ => Nat.le_refl _) (Nat.le_refl _) (Nat.le_refl _) (Nat.le_refl _) fun q a b => by rw [jsz_wfi] at b; omega
theorem Sp.fl {F r : Nat} {v : Int64} : Sp h (wfl h F r v) 0 0 := Sp.new (n := 0) (m := 0) (fun _ _ _ => Nat.le_refl _) (Nat.le_refl _) (Nat.le_refl _) (Nat.le_refl _) fun q a b => by rw [jsz_wfl] at b; omega
theorem Sp.ai {r i : Nat} {v : Int32} : Sp h (wai h r i v) 0 0 := Sp.new (n := 0) (m := 0) (fun _ _ _ => Nat.le_refl _) (Nat.le_refl _) (Nat.le_refl _) (Nat.le_refl _) fun q a b => by rw [jsz_wai] at b; omega
theorem Sp.al {r i : Nat} {v : Int64} : Sp h (wal h r i v) 0 0 := Sp.new (n := 0) (m := 0) (fun _ _ _ => Nat.le_refl _) (Nat.le_refl _) (Nat.le_refl _) (Nat.le_refl _) fun q a b => by rw [jsz_wal] at b; omega
theorem Sp.ar {r i : Nat} {v : Nat} : Sp h (war h r i v) 0 0 := Sp.new (n := 0) (m := 0) (fun _ _ _ => Nat.le_refl _) (Nat.le_refl _) (Nat.le_refl _) (Nat.le_refl _) fun q a b => by rw [jsz_war] at b; omega
theorem wq_mono {h h' : JH} {q : Nat} (k : jkd h' q = jkd h q) (a : jfr h' 67 q = 0 → jfr h 67 q = 0) (b : jfr h' 269 q = 0 → jfr h 269 q = 0) : wq h' q ≤ wq h q := by
  unfold wq
  rw [k]
  by_cases z : (ckd (jkd h q) = true ∧ jfr h' 67 q = 0) ∨ (vkd (jkd h q) = true ∧ jfr h' 269 q = 0)
  · rw [if_pos z, if_pos]
    · exact Nat.le_refl _
    · rcases z with z | z
      · exact Or.inl ⟨z.1, a z.2⟩
      · exact Or.inr ⟨z.1, b z.2⟩
  · rw [if_neg z]; exact Nat.zero_le _
theorem Sp.fr {F r v : Nat} (hF : (F ≠ 67 ∧ F ≠ 269) ∨ v ≠ 0) : Sp h (wfr h F r v) 0 0 := by
  refine Sp.new (n := 0) (m := 0) (fun q _ _ => wq_mono rfl (fun z => ?_) fun z => ?_) (Nat.le_refl _) (Nat.le_refl _) (Nat.le_refl _) fun q a b => by rw [jsz_wfr] at b; omega
  · rw [jfr_wfr] at z
    by_cases e : 67 = F ∧ q = r
    · rw [if_pos e] at z; omega
    · rwa [if_neg e] at z
  · rw [jfr_wfr] at z
    by_cases e : 269 = F ∧ q = r
    · rw [if_pos e] at z; omega
    · rwa [if_neg e] at z
theorem wq_nwo {k n q : Nat} (hq : q ≤ jsz h) : wq (nwo h k n) q = wq h q := wq_same (same_nwo hq)
theorem wq_nwa {k n q : Nat} (hq : q ≤ jsz h) : wq (nwa h k n) q = wq h q := wq_same (same_nwa hq)
theorem Sp.nO {k n : Nat} (hk : (ckd k || vkd k) = false) : Sp h (nwo h k n) 1 n := by
  refine Sp.new (n := 1) (m := n) (fun q _ hq => Nat.le_of_eq (wq_nwo hq)) (Nat.le_succ _) (Nat.le_refl _) (Nat.le_refl _) fun q a b => ?_
  rw [jsz_nwo] at b
  rw [Bool.or_eq_false_iff] at hk
  have : q = jsz h + 1 := by omega
  subst this
  unfold wq
  rw [jkd_nwo, if_pos rfl, hk.1, hk.2]
  exact if_neg (by simp)
theorem Sp.nA {k n : Nat} (hk : (ckd k || vkd k) = false) : Sp h (nwa h k n) 1 n := by
  refine Sp.new (n := 1) (m := n) (fun q _ hq => Nat.le_of_eq (wq_nwa hq)) (Nat.le_succ _) (Nat.le_refl _) (Nat.le_refl _) fun q a b => ?_
  rw [jsz_nwa] at b
  rw [Bool.or_eq_false_iff] at hk
  have : q = jsz h + 1 := by omega
  subst this
  unfold wq
  rw [jkd_nwa, if_pos rfl, hk.1, hk.2]
  exact if_neg (by simp)
/-- a new cell, with its characters -/
theorem Sp.nC {k n : Nat} : Sp h (nwo h k n) 2 (n + 40) :=
  Sp.of (n := 1) (m := n) (fun q _ hq => Nat.le_of_eq (wq_nwo hq)) (Nat.le_succ _) (Nat.le_refl _) (Nat.le_refl _)
end
/-- a cell that changes spends nothing -/
theorem CelF.sp {D : JD} {h h' : JH} {c : Nat} (hI : JInv D h) (hI' : JInv D h') (hf : CelF h h' c) (hc : ckd (jkd h c) = true) (hc0 : c ≠ 0) (hw : CelW D h' c) : Sp h h' 0 0 := by
  obtain ⟨f1, f2, f3, f4, f5, f6, f7, f8⟩ := hf
  have hcl : c ≤ jsz h := hI.lt (fun e => by rw [e] at hc; cases hc)
  have hq : ∀ q, 1 ≤ q → q ≤ jsz h → wq h' q ≤ wq h q := by
    intro q h1 h2
    by_cases e : q = c
    · subst e
      exact wq_mono f7 (fun z => by
        rcases f2 with w | w
        · exact w ▸ z
        · omega) (fun z => by rw [← f8 269 q (by decide) (by decide)]; exact z)
    · by_cases e2 : q = jfr h 67 c
      · have : jkd h q = 144 := by
          rw [e2]
          exact hI.ref (F := 67) (by decide +kernel) (by omega)
        have k' : jkd h' q = 144 := by
          by_cases z : jfr h' 67 c = jfr h 67 c
          · rw [e2, ← z]; exact hI'.ref (F := 67) (by decide +kernel) (by omega)
          · rcases f2 with w | w
            · exact absurd w z
            · unfold pc67 at f5
              rw [if_neg (by omega), if_neg (by omega)] at f5
              have := hI'.refl (F := 67) (r := c)
              omega
        rw [wq_kd k' rfl]; exact Nat.zero_le _
      · exact Nat.le_of_eq (wq_same (f1 q h2 (by rintro (z | z); exact e z; exact e2 z)))
  by_cases e : jfr h' 67 c = jfr h 67 c
  · unfold pc67 at f5 f6
    rw [e] at f5 f6
    exact Sp.new (n := 0) (m := 0) hq f4 (by omega) (by omega) fun q a b => by omega
  · have z1 : jsz h < jfr h' 67 c := by
      rcases f2 with w | w
      · exact absurd w e
      · exact w
    have z2 := hI'.refl (F := 67) (r := c)
    unfold pc67 at f5 f6
    rw [if_neg (by omega)] at f5 f6
    have z3 : jfr h 67 c = 0 := by
      by_cases w : jfr h 67 c = 0
      · exact w
      · rw [if_neg w] at f5; omega
    rw [if_pos z3] at f5 f6
    have lt : wsum h' (jsz h) + 1 ≤ wsum h (jsz h) := by
      refine wsum_lt (c := c) ?_ _ (by omega) hcl hq
      have o1 : wq h c = 1 := if_pos (Or.inl ⟨hc, z3⟩)
      have o2 : wq h' c = 0 := if_neg ?_
      · omega
      rintro (w | w)
      · omega
      · rw [f7] at w
        unfold ckd at hc
        unfold vkd at w
        simp only [Bool.and_eq_true, Nat.ble_eq] at hc w
        omega
    have lst : wq h' (jsz h + 1) = 0 := by
      have : jfr h' 67 c = jsz h + 1 := by omega
      have k : jkd h' (jsz h + 1) = 144 := by rw [← this]; exact hI'.ref (F := 67) (by decide +kernel) (by omega)
      exact wq_kd k rfl
    unfold Sp rc rs
    rw [show jsz h' = jsz h + 1 by omega]
    show ((jsz h + 1 + (wsum h' (jsz h) + wq h' (jsz h + 1)) : Nat) : Int) ≤ _ ∧ ((jus h' + 40 * (wsum h' (jsz h) + wq h' (jsz h + 1)) : Nat) : Int) ≤ _
    rw [lst]
    constructor <;> omega
