/-! the parser of the component: INSERT, a value -/
section
variable {D : JD} {p s a base : Nat} {src : Str} {h h' h'' h0 : JH} {σ σ' σ'' σ0 : PS} {ρ ρ' ρ'' ρ0 : Nat → Nat} {n m n' m' : Int} {d c r w arr N : Nat} {t nm : Str} {ns : List Str} {l : List (List Nat)} {row : List Nat}
theorem snoc_get {α : Type} {l : List α} {x : α} : (l ++ [x])[l.length]? = some x := by
  rw [List.getElem?_append_right (Nat.le_refl _), Nat.sub_self]; rfl
theorem InS.last (u : InS N h ρ r t ns (l ++ [row])) : jfi h 105 r - 1 = nI l.length ∧ l.length < 20 ∧ jai h (jfr h 104 r) l.length = nI row.length ∧ row.length ≤ 10 := by
  obtain ⟨⟨k1, k2, k3⟩, k4, ⟨k5, k6, k7⟩, k8, ⟨k9, k10⟩, ⟨k11, k12⟩, ⟨k13, k13'⟩, k14, k15⟩ := u
  have x := k15.1 l.length row snoc_get
  simp at k13'
  refine ⟨?_, by omega, x.2.1, x.2.2⟩
  rw [k13, List.length_append, List.length_singleton, ← nI_1, Int32.add_sub_cancel]
theorem w_insValue {x : Nat} (k : POk D p s a base src h0 h σ0 σ ρ0 ρ n m) (hI0 : JInv D h0) (hs : s ≤ jsz h0) (u : InS (jsz h0) h ρ r t ns (l ++ [row])) (hl : row.length < 10) (hx : x < (psA σ).length) (hd : 1 ≤ d) :
    cX23_value D d r (ρ x) h (pV D h (fun h' => POk D p s a base src h0 h' σ0 σ ρ0 ρ n m ∧ InS (jsz h0) h' ρ r t ns (l ++ [row ++ [x]])) no) := by
  obtain ⟨e, rfl, he⟩ := dsucc hd
  obtain ⟨la, lb, lc, _⟩ := u.last
  obtain ⟨⟨k1, k2, k3⟩, k4, ⟨k5, k6, k7⟩, k8, ⟨k9, k10⟩, ⟨k11, k12⟩, ⟨k13, k13'⟩, k14, k15⟩ := u
  obtain ⟨⟨x1, x2, x3⟩, _, _⟩ := k15.1 l.length row snoc_get
  have W := k12.2.1
  have R := x2.2.1
  refine JW.inv fun hI => t_X23_value ⟨k2, ?_⟩
  rw [la, ixn_nI (by omega), lc]
  refine ⟨k10.1, by rw [k10.2.2]; exact jin_nI (by omega) (by omega), k12.1, by rw [k12.2.2]; exact jin_nI (by omega) (by omega), x2.1, by rw [x2.2.2]; exact jin_nI (by omega) (by omega), ?_⟩
  rintro h1 q1
  rw [ixn_nI (by omega)] at q1
  have nk := k.1.nk hx
  have n1 : POk D p s a base src h0 h1 σ0 σ ρ0 ρ n m := by rw [q1]; exact k.sar hI hI0 hs (by rw [R]; decide) x1
  have hI1 : JInv D h1 := by
    rw [q1]
    refine hI.war (hI.2.1 _ (by rw [R]; decide)) (hI.lt (by rw [R]; decide)) (Or.inr ?_)
    rw [R]; exact (sbt_node2 _ nk.2 nk.1).2.2.2
  have f1 : ∀ F q, jfr h1 F q = jfr h F q := fun F q => by rw [q1]; rfl
  have i1 : ∀ F q, jfi h1 F q = jfi h F q := fun F q => by rw [q1]; rfl
  have d1 : ∀ q, jkd h1 q = jkd h q := fun q => by rw [q1]; rfl
  have l1 : ∀ q, jln h1 q = jln h q := fun q => by rw [q1]; rfl
  have s1 : ∀ q, q ≠ jar h (jfr h 103 r) l.length → same h h1 q := fun q hq => by rw [q1]; exact same_war hq
  have neW : jfr h 104 r ≠ jar h (jfr h 103 r) l.length := fun e => by rw [← e, W] at R; cases R
  rw [f1 104, i1, la, l1, ixn_nI (by omega), (s1 _ neW).ai, lc]
  refine ⟨k12.1, by rw [k12.2.2]; exact jin_nI (by omega) (by omega), by rw [k12.2.2]; exact jin_nI (by omega) (by omega), ?_⟩
  rintro h2 q2
  have n2 : POk D p s a base src h0 h2 σ0 σ ρ0 ρ n m := by rw [q2]; exact n1.sai hI1 hI0 hs (by rw [d1, W]; decide) k11
  have s2 : ∀ q, q ≠ jfr h 104 r → same h1 h2 q := fun q hq => by rw [q2]; exact same_wai hq
  have all : ∀ q, q ≠ jar h (jfr h 103 r) l.length → jkd h q ≠ 147 → same h h2 q := fun q z1 z2 => (s1 q z1).tr (s2 q fun e => z2 (by rw [e]; exact W))
  have alk : ∀ q, jkd h q ≠ 221 → jkd h q ≠ 147 → same h h2 q := fun q z1 z2 => all q (fun e => z1 (by rw [e]; exact R)) z2
  have str : ∀ q z, StR h q z → StR h2 q z := fun q z ks => by
    have z1 := ks.2.1
    have z2 := ks.2.2.2.2.1
    exact ks.of (alk q (by omega) (by omega)) (alk _ (by omega) (by omega))
  have sr := alk r (by rw [k3]; decide) (by rw [k3]; decide)
  have s101 := alk (jfr h 101 r) (by rw [k6.2.1]; decide) (by rw [k6.2.1]; decide)
  have s103 := alk (jfr h 103 r) (by rw [k10.2.1]; decide) (by rw [k10.2.1]; decide)
  have s106 := alk (jfr h 106 r) (by rw [k14.2.1]; decide) (by rw [k14.2.1]; decide)
  have d2 : jkd h2 (jfr h 104 r) = 147 := by rw [q2]; exact (d1 _).trans W
  have l2 : jln h2 (jfr h 104 r) = 20 := by rw [q2]; exact (l1 _).trans k12.2.2
  have aW : ∀ i, jai h2 (jfr h 104 r) i = if i = l.length then nI row.length + 1 else jai h (jfr h 104 r) i := fun i => by
    rw [q2]
    simp only [jkd_wfi, jln_wfi, jfi_wfi, jfl_wfi, jfr_wfi, jai_wfi, jal_wfi, jar_wfi, jsz_wfi, jus_wfi, jkd_wfl, jln_wfl, jfi_wfl, jfl_wfl, jfr_wfl, jai_wfl, jal_wfl, jar_wfl, jsz_wfl, jus_wfl, jkd_wfr, jln_wfr, jfi_wfr, jfl_wfr, jfr_wfr, jai_wfr, jal_wfr, jar_wfr, jsz_wfr, jus_wfr, jkd_wai, jln_wai, jfi_wai, jfl_wai, jfr_wai, jai_wai, jal_wai, jar_wai, jsz_wai, jus_wai, jkd_wal, jln_wal, jfi_wal, jfl_wal, jfr_wal, jai_wal, jal_wal, jar_wal, jsz_wal, jus_wal, jkd_war, jln_war, jfi_war, jfl_war, jfr_war, jai_war, jal_war, jar_war, jsz_war, jus_war, jkd_nwo, jln_nwo, jfi_nwo, jfl_nwo, jfr_nwo, jai_nwo, jal_nwo, jar_nwo, jsz_nwo, jus_nwo, jkd_nwa, jln_nwa, jfi_nwa, jfl_nwa, jfr_nwa, jai_nwa, jal_nwa, jar_nwa, jsz_nwa, jus_nwa, jkd_cpa, jln_cpa, jfi_cpa, jfl_cpa, jfr_cpa, jai_cpa, jal_cpa, jar_cpa, jsz_cpa, jus_cpa, true_and]
    by_cases e : i = l.length
    · rw [if_pos e, if_pos e]
    · rw [if_neg e, if_neg e]; exact (s1 _ neW).ai i
  have nR : jar h (jfr h 103 r) l.length ≠ jfr h 104 r := neW.symm
  have len : (l ++ [row ++ [x]]).length = (l ++ [row]).length := by simp
  refine endV fun hI2 _ => ⟨n2, ⟨k1, k2, by rw [sr.kd]; exact k3⟩, by rw [sr.fr]; exact str _ _ k4, by rw [sr.fr]; exact ⟨k5, k6.of s101, k7.of s101 str⟩, by rw [sr.fi]; exact k8, by rw [sr.fr]; exact ⟨k9, k10.of s103⟩, by rw [sr.fr]; exact ⟨k11, k12.1, d2, l2⟩, by rw [sr.fi, len]; exact ⟨k13, k13'⟩, by rw [sr.fr]; exact k14.of s106, ?_⟩
  rw [sr.fr, sr.fr]
  refine ⟨fun i rw0 hi => ?_, fun i j hi hj e => ?_, fun i hi => ?_⟩
  · rw [s103.ar, aW]
    rcases get_snoc hi with ⟨e, rfl⟩ | ⟨e, g⟩
    · rw [e, if_pos rfl]
      refine ⟨⟨x1, ⟨x2.1, ?_, ?_⟩, ?_⟩, by rw [nI_1]; simp, by simp; omega⟩
      · rw [(s2 _ nR).kd, d1]; exact R
      · rw [(s2 _ nR).ln, l1]; exact x2.2.2
      · have z2 : ExsR h1 ρ (jar h (jfr h 103 r) l.length) (row ++ [x]) := by rw [q1]; exact x3.put
        exact z2.of (s2 _ nR) fun _ _ => rfl
    · rw [if_neg e]
      have il : i < l.length := (List.getElem?_eq_some_iff.mp g).1
      obtain ⟨⟨y1, y2, y3⟩, y4, y5⟩ := k15.1 i rw0 (by rw [List.getElem?_append_left il]; exact g)
      have ne : jar h (jfr h 103 r) i ≠ jar h (jfr h 103 r) l.length := fun e' => by
        have := k15.2.1 i l.length (by simp; omega) (by simp) e'
        omega
      have sq := all _ ne (by rw [y2.2.1]; decide)
      exact ⟨⟨y1, y2.of sq, y3.of sq fun _ _ => rfl⟩, y4, y5⟩
  · rw [len] at hi hj
    rw [s103.ar, s103.ar] at e
    exact k15.2.1 i j hi hj e
  · rw [len] at hi
    rw [aW, if_neg (by simp at hi; omega)]
    exact k15.2.2 i hi
end
