/-! frames: which objects of the heap are as they were -/
def same (h h' : JH) (q : Nat) : Prop := jkd h' q = jkd h q ∧ jln h' q = jln h q ∧ (∀ F, jfi h' F q = jfi h F q ∧ jfl h' F q = jfl h F q ∧ jfr h' F q = jfr h F q) ∧ ∀ i, jai h' q i = jai h q i ∧ jal h' q i = jal h q i ∧ jar h' q i = jar h q i
theorem same.rf (h : JH) (q : Nat) : same h h q := ⟨rfl, rfl, fun _ => ⟨rfl, rfl, rfl⟩, fun _ => ⟨rfl, rfl, rfl⟩⟩
theorem same.tr {a b c : JH} {q : Nat} (h1 : same a b q) (h2 : same b c q) : same a c q :=
  ⟨h2.1.trans h1.1, h2.2.1.trans h1.2.1, fun F => ⟨(h2.2.2.1 F).1.trans (h1.2.2.1 F).1, (h2.2.2.1 F).2.1.trans (h1.2.2.1 F).2.1, (h2.2.2.1 F).2.2.trans (h1.2.2.1 F).2.2⟩,
    fun i => ⟨(h2.2.2.2 i).1.trans (h1.2.2.2 i).1, (h2.2.2.2 i).2.1.trans (h1.2.2.2 i).2.1, (h2.2.2.2 i).2.2.trans (h1.2.2.2 i).2.2⟩⟩
theorem same.kd {h h' : JH} {q : Nat} (s : same h h' q) : jkd h' q = jkd h q := s.1
theorem same.ln {h h' : JH} {q : Nat} (s : same h h' q) : jln h' q = jln h q := s.2.1
theorem same.fi {h h' : JH} {q : Nat} (s : same h h' q) (F : Nat) : jfi h' F q = jfi h F q := (s.2.2.1 F).1
theorem same.fl {h h' : JH} {q : Nat} (s : same h h' q) (F : Nat) : jfl h' F q = jfl h F q := (s.2.2.1 F).2.1
theorem same.fr {h h' : JH} {q : Nat} (s : same h h' q) (F : Nat) : jfr h' F q = jfr h F q := (s.2.2.1 F).2.2
theorem same.ai {h h' : JH} {q : Nat} (s : same h h' q) (i : Nat) : jai h' q i = jai h q i := (s.2.2.2 i).1
theorem same.al {h h' : JH} {q : Nat} (s : same h h' q) (i : Nat) : jal h' q i = jal h q i := (s.2.2.2 i).2.1
theorem same.ar {h h' : JH} {q : Nat} (s : same h h' q) (i : Nat) : jar h' q i = jar h q i := (s.2.2.2 i).2.2
/-- of the objects up to n those that are not in M are as they were -/
def fr (n : Nat) (M : Nat → Prop) (h h' : JH) : Prop := ∀ q, q ≤ n → ¬ M q → same h h' q
theorem fr.rf (n : Nat) (M : Nat → Prop) (h : JH) : fr n M h h := fun q _ _ => same.rf h q
theorem fr.tr {n : Nat} {M : Nat → Prop} {a b c : JH} (h1 : fr n M a b) (h2 : fr n M b c) : fr n M a c := fun q hq hM => (h1 q hq hM).tr (h2 q hq hM)
theorem fr.mono {n n' : Nat} {M M' : Nat → Prop} {a b : JH} (h1 : fr n M a b) (hn : n' ≤ n) (hM : ∀ q, q ≤ n' → M q → M' q) : fr n' M' a b := fun q hq hq' => h1 q (Nat.le_trans hq hn) fun z => hq' (hM q hq z)
theorem same_wfi {h : JH} {F r q : Nat} {v : Int32} (hq : q ≠ r) : same h (wfi h F r v) q :=
  ⟨rfl, rfl, fun G => ⟨if_neg fun z => hq z.2, rfl, rfl⟩, fun _ => ⟨rfl, rfl, rfl⟩⟩
theorem same_wfl {h : JH} {F r q : Nat} {v : Int64} (hq : q ≠ r) : same h (wfl h F r v) q :=
  ⟨rfl, rfl, fun G => ⟨rfl, if_neg fun z => hq z.2, rfl⟩, fun _ => ⟨rfl, rfl, rfl⟩⟩
theorem same_wfr {h : JH} {F r q : Nat} {v : Nat} (hq : q ≠ r) : same h (wfr h F r v) q :=
  ⟨rfl, rfl, fun G => ⟨rfl, rfl, if_neg fun z => hq z.2⟩, fun _ => ⟨rfl, rfl, rfl⟩⟩
theorem same_wai {h : JH} {i r q : Nat} {v : Int32} (hq : q ≠ r) : same h (wai h r i v) q :=
  ⟨rfl, rfl, fun G => ⟨rfl, rfl, rfl⟩, fun _ => ⟨if_neg fun z => hq z.1, rfl, rfl⟩⟩
theorem same_wal {h : JH} {i r q : Nat} {v : Int64} (hq : q ≠ r) : same h (wal h r i v) q :=
  ⟨rfl, rfl, fun G => ⟨rfl, rfl, rfl⟩, fun _ => ⟨rfl, if_neg fun z => hq z.1, rfl⟩⟩
theorem same_war {h : JH} {i r q : Nat} {v : Nat} (hq : q ≠ r) : same h (war h r i v) q :=
  ⟨rfl, rfl, fun G => ⟨rfl, rfl, rfl⟩, fun _ => ⟨rfl, rfl, if_neg fun z => hq z.1⟩⟩
theorem same_nwo {h : JH} {k n q : Nat} (hq : q ≤ jsz h) : same h (nwo h k n) q :=
  ⟨if_neg (by omega), rfl, fun G => ⟨rfl, rfl, rfl⟩, fun _ => ⟨rfl, rfl, rfl⟩⟩
theorem same_nwa {h : JH} {k n q : Nat} (hq : q ≤ jsz h) : same h (nwa h k n) q :=
  ⟨if_neg (by omega), if_neg (by omega), fun G => ⟨rfl, rfl, rfl⟩, fun _ => ⟨rfl, rfl, rfl⟩⟩
theorem same_cpa {h : JH} {s sp t tp n q : Nat} (hq : q ≠ t) : same h (cpa h s sp t tp n) q :=
  ⟨rfl, rfl, fun G => ⟨rfl, rfl, rfl⟩, fun _ => ⟨if_neg fun z => hq z.1, rfl, rfl⟩⟩
/-- writes into what may change, or into what is new -/
theorem fr_wfi {h : JH} {n F r : Nat} {v : Int32} {M : Nat → Prop} (hr : M r ∨ n < r) : fr n M h (wfi h F r v) := fun q hq hM => same_wfi fun e => by subst e; rcases hr with z | z; exact hM z; omega
theorem fr_wfl {h : JH} {n F r : Nat} {v : Int64} {M : Nat → Prop} (hr : M r ∨ n < r) : fr n M h (wfl h F r v) := fun q hq hM => same_wfl fun e => by subst e; rcases hr with z | z; exact hM z; omega
theorem fr_wfr {h : JH} {n F r : Nat} {v : Nat} {M : Nat → Prop} (hr : M r ∨ n < r) : fr n M h (wfr h F r v) := fun q hq hM => same_wfr fun e => by subst e; rcases hr with z | z; exact hM z; omega
theorem fr_wai {h : JH} {n i r : Nat} {v : Int32} {M : Nat → Prop} (hr : M r ∨ n < r) : fr n M h (wai h r i v) := fun q hq hM => same_wai fun e => by subst e; rcases hr with z | z; exact hM z; omega
theorem fr_wal {h : JH} {n i r : Nat} {v : Int64} {M : Nat → Prop} (hr : M r ∨ n < r) : fr n M h (wal h r i v) := fun q hq hM => same_wal fun e => by subst e; rcases hr with z | z; exact hM z; omega
theorem fr_war {h : JH} {n i r : Nat} {v : Nat} {M : Nat → Prop} (hr : M r ∨ n < r) : fr n M h (war h r i v) := fun q hq hM => same_war fun e => by subst e; rcases hr with z | z; exact hM z; omega
theorem fr_cpa {h : JH} {n s sp t tp m : Nat} {M : Nat → Prop} (hr : M t ∨ n < t) : fr n M h (cpa h s sp t tp m) := fun q hq hM => same_cpa fun e => by subst e; rcases hr with z | z; exact hM z; omega
theorem fr_nwo {h : JH} {n k m : Nat} {M : Nat → Prop} (hn : n ≤ jsz h) : fr n M h (nwo h k m) := fun q hq _ => same_nwo (Nat.le_trans hq hn)
theorem fr_nwa {h : JH} {n k m : Nat} {M : Nat → Prop} (hn : n ≤ jsz h) : fr n M h (nwa h k m) := fun q hq _ => same_nwa (Nat.le_trans hq hn)
/-- what a field or an array refers to is null or of the kind its tag says -/
theorem JInv.ref {D : JD} {h : JH} (hI : JInv D h) {F r k : Nat} (hk : (List.range 226).all (fun j => !(sbt j (ftg F) && jkk j) || Nat.beq j k) = true) (hr : jfr h F r ≠ 0) : jkd h (jfr h F r) = k := by
  have hs := Or.resolve_left (hI.2.2.1 F r) hr
  have := List.all_eq_true.mp hk _ (List.mem_range.mpr (sbt_lt hs))
  simp only [hs, (hI.1 _ (sbt_ne0 hs)).2.2, Bool.and_self, Bool.not_true, Bool.false_or] at this
  exact Nat.eq_of_beq_eq_true this
theorem JInv.lt {D : JD} {h : JH} (hI : JInv D h) {r : Nat} (hr : jkd h r ≠ 0) : r ≤ jsz h := (hI.1 r hr).2.1
theorem JInv.refl {D : JD} {h : JH} (hI : JInv D h) {F r : Nat} : jfr h F r ≤ jsz h := by
  rcases hI.2.2.1 F r with e | e
  · rw [e]; exact Nat.zero_le _
  · exact hI.lt (sbt_ne0 e)
theorem JInv.eltl {D : JD} {h : JH} (hI : JInv D h) {r i : Nat} : jar h r i ≤ jsz h := by
  rcases hI.2.2.2.1 r i with e | e
  · rw [e]; exact Nat.zero_le _
  · exact hI.lt (sbt_ne0 e)
theorem JInv.new0 {D : JD} {h : JH} (hI : JInv D h) {r : Nat} (hr : jsz h < r) : jkd h r = 0 := by
  by_cases e : jkd h r = 0
  · exact e
  · exact absurd (hI.lt e) (by omega)
theorem JInv.zi {D : JD} {h : JH} (hI : JInv D h) {r : Nat} (hr : jsz h < r) (F : Nat) : jfi h F r = 0 := ((hI.2.2.2.2.1 r hr).1 F).1
theorem JInv.zl {D : JD} {h : JH} (hI : JInv D h) {r : Nat} (hr : jsz h < r) (F : Nat) : jfl h F r = 0 := ((hI.2.2.2.2.1 r hr).1 F).2.1
theorem JInv.zr {D : JD} {h : JH} (hI : JInv D h) {r : Nat} (hr : jsz h < r) (F : Nat) : jfr h F r = 0 := ((hI.2.2.2.2.1 r hr).1 F).2.2
theorem JInv.zai {D : JD} {h : JH} (hI : JInv D h) {r : Nat} (hr : jsz h < r) (i : Nat) : jai h r i = 0 := ((hI.2.2.2.2.1 r hr).2 i).1
theorem JInv.zal {D : JD} {h : JH} (hI : JInv D h) {r : Nat} (hr : jsz h < r) (i : Nat) : jal h r i = 0 := ((hI.2.2.2.2.1 r hr).2 i).2.1
theorem JInv.zar {D : JD} {h : JH} (hI : JInv D h) {r : Nat} (hr : jsz h < r) (i : Nat) : jar h r i = 0 := ((hI.2.2.2.2.1 r hr).2 i).2.2
theorem jin_nI {n m : Nat} (h : n < m) (hm : m < 2 ^ 31) : jin (nI n) m := ⟨nI_pos (by omega), by rw [nI_clamp (by omega)]; exact h⟩
theorem ixn_nI {n : Nat} (h : n < 2 ^ 31) : ixn (nI n) = n := nI_clamp h
theorem jsm_nI {n : Nat} (h : n ≤ 1000000) : jsm (nI n) := ⟨nI_pos (by omega), by rw [nI_clamp (by omega)]; exact h⟩
