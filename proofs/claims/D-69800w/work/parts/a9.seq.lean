/-! the parser of the component: arrays of a statement, UPDATE -/
section
variable {D : JD} {p s a base : Nat} {src : Str} {h h' h'' h0 : JH} {σ σ' σ'' σ0 : PS} {ρ ρ' ρ'' ρ0 : Nat → Nat} {n m n' m' : Int} {d c r w arr : Nat}
/-- an array of kind kk and length ln -/
def AR (h : JH) (arr kk ln : Nat) : Prop := arr ≠ 0 ∧ jkd h arr = kk ∧ jln h arr = ln
theorem AR.of {kk ln : Nat} (k : AR h arr kk ln) (sm : same h h' arr) : AR h' arr kk ln := ⟨k.1, by rw [sm.kd]; exact k.2.1, by rw [sm.ln]; exact k.2.2⟩
/-- strings in an array -/
def StsR (h : JH) (arr : Nat) (l : List Str) : Prop := ∀ i w, l[i]? = some w → StR h (jar h arr i) w
/-- trees in an array -/
def ExsR (h : JH) (ρ : Nat → Nat) (arr : Nat) (l : List Nat) : Prop := ∀ i x, l[i]? = some x → jar h arr i = ρ x
theorem StsR.of {l : List Str} (k : StsR h arr l) (sm : same h h' arr) (st : ∀ q w, StR h q w → StR h' q w) : StsR h' arr l := fun i w hw => by rw [sm.ar]; exact st _ _ (k i w hw)
theorem ExsR.of {l : List Nat} (k : ExsR h ρ arr l) (sm : same h h' arr) (hr : ∀ x ∈ l, ρ' x = ρ x) : ExsR h' ρ' arr l := fun i x hx => by rw [sm.ar, hr x (List.mem_of_getElem? hx)]; exact k i x hx
theorem get_snoc {α : Type} {l : List α} {x y : α} {i : Nat} (e : (l ++ [x])[i]? = some y) : (i = l.length ∧ y = x) ∨ (i ≠ l.length ∧ l[i]? = some y) := by
  by_cases c : i = l.length
  · rw [c, List.getElem?_append_right (Nat.le_refl _), Nat.sub_self] at e
    cases e
    exact Or.inl ⟨c, rfl⟩
  · have : i < l.length := by
      have := (List.getElem?_eq_some_iff.mp e).1
      simp at this
      omega
    rw [List.getElem?_append_left this] at e
    exact Or.inr ⟨c, e⟩
theorem StsR.put {l : List Str} {v : Nat} {x : Str} (k : StsR h arr l) (hx : StR h v x) (hk : skd (jkd h arr) = true) : StsR (war h arr l.length v) arr (l ++ [x]) := fun i y hy => by
  have hk0 := skd_or hk
  have st : ∀ q w, StR h q w → StR (war h arr l.length v) q w := fun q w z => by
    have z1 := z.2.1
    have z2 := z.2.2.2.2.1
    exact z.of (same_war fun e => by rw [e] at z1; omega) (same_war fun e => by rw [e] at z2; omega)
  simp only [jkd_wfi, jln_wfi, jfi_wfi, jfl_wfi, jfr_wfi, jai_wfi, jal_wfi, jar_wfi, jsz_wfi, jus_wfi, jkd_wfl, jln_wfl, jfi_wfl, jfl_wfl, jfr_wfl, jai_wfl, jal_wfl, jar_wfl, jsz_wfl, jus_wfl, jkd_wfr, jln_wfr, jfi_wfr, jfl_wfr, jfr_wfr, jai_wfr, jal_wfr, jar_wfr, jsz_wfr, jus_wfr, jkd_wai, jln_wai, jfi_wai, jfl_wai, jfr_wai, jai_wai, jal_wai, jar_wai, jsz_wai, jus_wai, jkd_wal, jln_wal, jfi_wal, jfl_wal, jfr_wal, jai_wal, jal_wal, jar_wal, jsz_wal, jus_wal, jkd_war, jln_war, jfi_war, jfl_war, jfr_war, jai_war, jal_war, jar_war, jsz_war, jus_war, jkd_nwo, jln_nwo, jfi_nwo, jfl_nwo, jfr_nwo, jai_nwo, jal_nwo, jar_nwo, jsz_nwo, jus_nwo, jkd_nwa, jln_nwa, jfi_nwa, jfl_nwa, jfr_nwa, jai_nwa, jal_nwa, jar_nwa, jsz_nwa, jus_nwa, jkd_cpa, jln_cpa, jfi_cpa, jfl_cpa, jfr_cpa, jai_cpa, jal_cpa, jar_cpa, jsz_cpa, jus_cpa, true_and]
  rcases get_snoc hy with ⟨e, rfl⟩ | ⟨e, g⟩
  · rw [if_pos e]; exact st _ _ hx
  · rw [if_neg e]; exact st _ _ (k i y g)
theorem ExsR.put {l : List Nat} {x : Nat} (k : ExsR h ρ arr l) : ExsR (war h arr l.length (ρ x)) ρ arr (l ++ [x]) := fun i y hy => by
  simp only [jkd_wfi, jln_wfi, jfi_wfi, jfl_wfi, jfr_wfi, jai_wfi, jal_wfi, jar_wfi, jsz_wfi, jus_wfi, jkd_wfl, jln_wfl, jfi_wfl, jfl_wfl, jfr_wfl, jai_wfl, jal_wfl, jar_wfl, jsz_wfl, jus_wfl, jkd_wfr, jln_wfr, jfi_wfr, jfl_wfr, jfr_wfr, jai_wfr, jal_wfr, jar_wfr, jsz_wfr, jus_wfr, jkd_wai, jln_wai, jfi_wai, jfl_wai, jfr_wai, jai_wai, jal_wai, jar_wai, jsz_wai, jus_wai, jkd_wal, jln_wal, jfi_wal, jfl_wal, jfr_wal, jai_wal, jal_wal, jar_wal, jsz_wal, jus_wal, jkd_war, jln_war, jfi_war, jfl_war, jfr_war, jai_war, jal_war, jar_war, jsz_war, jus_war, jkd_nwo, jln_nwo, jfi_nwo, jfl_nwo, jfr_nwo, jai_nwo, jal_nwo, jar_nwo, jsz_nwo, jus_nwo, jkd_nwa, jln_nwa, jfi_nwa, jfl_nwa, jfr_nwa, jai_nwa, jal_nwa, jar_nwa, jsz_nwa, jus_nwa, jkd_cpa, jln_cpa, jfi_cpa, jfl_cpa, jfr_cpa, jai_cpa, jal_cpa, jar_cpa, jsz_cpa, jus_cpa, true_and]
  rcases get_snoc hy with ⟨e, rfl⟩ | ⟨e, g⟩
  · rw [if_pos e]
  · rw [if_neg e]; exact k i y g
/-- a field becomes a new array -/
def arF (h : JH) (F r kk N : Nat) : JH := wfr (nwa h kk N) F r (jsz h + 1)
def ArI (D : JD) (h : JH) (F r kk N : Nat) (h' : JH) : Prop :=
  JInv D h' ∧ (∀ q, q ≤ jsz h → q ≠ r → same h h' q) ∧ jkd h' r = jkd h r ∧ jsz h' = jsz h + 1 ∧ jfr h' F r = jsz h + 1 ∧ (∀ G, G ≠ F → jfr h' G r = jfr h G r) ∧ (∀ G, jfi h' G r = jfi h G r) ∧ AR h' (jsz h + 1) kk N
theorem skd_wrt0 : ∀ k, k < 226 → skd k = true → wrt k = true := by decide +kernel
theorem skd_wrt {k : Nat} (hk : skd k = true) : wrt k = true := skd_wrt0 k (by have := skd_or hk; omega) hk
theorem ar_init {F kk N : Nat} (k : POk D p s a base src h0 h σ0 σ ρ0 ρ n m) (hI : JInv D h) (hI0 : JInv D h0) (hs : s ≤ jsz h0) (hk : skd (jkd h r) = true) (hr : jsz h0 < r) (hc : (ckd kk || vkd kk) = false) (hj : jkk kk = true) (ht : sbt kk (ftg F) = true) (hF : F ≠ 67 ∧ F ≠ 108 ∧ F ≠ 111 ∧ F ≠ 115 ∧ F ≠ 269 := by decide) :
    POk D p s a base src h0 (arF h F r kk N) σ0 σ ρ0 ρ (n + 1) (m + N) ∧ ArI D h F r kk N (arF h F r kk N) := by
  have kk0 := skd_or hk
  have rl : r ≤ jsz h := hI.lt (by omega)
  have br : jbs D < r := hI.2.1 _ (skd_wrt hk)
  have hI1 := hI.nA (k := kk) (N := N) hj
  have n1 := k.nA (kk := kk) (N := N) hI hI0 hs hc
  have kr : jkd (nwa h kk N) r = jkd h r := (same_nwa rl).kd
  have sk1 : jkd (nwa h kk N) (jsz h + 1) = kk := by simp only [jkd_wfi, jln_wfi, jfi_wfi, jfl_wfi, jfr_wfi, jai_wfi, jal_wfi, jar_wfi, jsz_wfi, jus_wfi, jkd_wfl, jln_wfl, jfi_wfl, jfl_wfl, jfr_wfl, jai_wfl, jal_wfl, jar_wfl, jsz_wfl, jus_wfl, jkd_wfr, jln_wfr, jfi_wfr, jfl_wfr, jfr_wfr, jai_wfr, jal_wfr, jar_wfr, jsz_wfr, jus_wfr, jkd_wai, jln_wai, jfi_wai, jfl_wai, jfr_wai, jai_wai, jal_wai, jar_wai, jsz_wai, jus_wai, jkd_wal, jln_wal, jfi_wal, jfl_wal, jfr_wal, jai_wal, jal_wal, jar_wal, jsz_wal, jus_wal, jkd_war, jln_war, jfi_war, jfl_war, jfr_war, jai_war, jal_war, jar_war, jsz_war, jus_war, jkd_nwo, jln_nwo, jfi_nwo, jfl_nwo, jfr_nwo, jai_nwo, jal_nwo, jar_nwo, jsz_nwo, jus_nwo, jkd_nwa, jln_nwa, jfi_nwa, jfl_nwa, jfr_nwa, jai_nwa, jal_nwa, jar_nwa, jsz_nwa, jus_nwa, jkd_cpa, jln_cpa, jfi_cpa, jfl_cpa, jfr_cpa, jai_cpa, jal_cpa, jar_cpa, jsz_cpa, jus_cpa, if_true]
  have nr : r ≠ jsz h + 1 := by omega
  have hI2 : JInv D (arF h F r kk N) := hI1.wfr br (by show r ≤ jsz h + 1; omega) (Or.inr (by rw [sk1]; exact ht))
  exact ⟨n1.sfr hI1 hI0 hs (by rw [kr]; exact hk) hr hF, ⟨hI2, fun q hq hn => (same_nwa hq).tr (same_wfr hn), kr, rfl, by unfold arF; rw [jfr_wfr, if_pos ⟨rfl, rfl⟩], fun G hG => by unfold arF; rw [jfr_wfr, if_neg fun z => hG z.1]; exact (same_nwa (k := kk) (n := N) rl).fr G, fun G => (same_nwa (k := kk) (n := N) rl).fi G, Nat.succ_ne_zero _, sk1, by show jln (nwa h kk N) (jsz h + 1) = N; simp only [jkd_wfi, jln_wfi, jfi_wfi, jfl_wfi, jfr_wfi, jai_wfi, jal_wfi, jar_wfi, jsz_wfi, jus_wfi, jkd_wfl, jln_wfl, jfi_wfl, jfl_wfl, jfr_wfl, jai_wfl, jal_wfl, jar_wfl, jsz_wfl, jus_wfl, jkd_wfr, jln_wfr, jfi_wfr, jfl_wfr, jfr_wfr, jai_wfr, jal_wfr, jar_wfr, jsz_wfr, jus_wfr, jkd_wai, jln_wai, jfi_wai, jfl_wai, jfr_wai, jai_wai, jal_wai, jar_wai, jsz_wai, jus_wai, jkd_wal, jln_wal, jfi_wal, jfl_wal, jfr_wal, jai_wal, jal_wal, jar_wal, jsz_wal, jus_wal, jkd_war, jln_war, jfi_war, jfl_war, jfr_war, jai_war, jal_war, jar_war, jsz_war, jus_war, jkd_nwo, jln_nwo, jfi_nwo, jfl_nwo, jfr_nwo, jai_nwo, jal_nwo, jar_nwo, jsz_nwo, jus_nwo, jkd_nwa, jln_nwa, jfi_nwa, jfl_nwa, jfr_nwa, jai_nwa, jal_nwa, jar_nwa, jsz_nwa, jus_nwa, jkd_cpa, jln_cpa, jfi_cpa, jfl_cpa, jfr_cpa, jai_cpa, jal_cpa, jar_cpa, jsz_cpa, jus_cpa, if_true]⟩⟩
end
