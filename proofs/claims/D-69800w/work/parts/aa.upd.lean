/-! the parser of the component: UPDATE -/
section
variable {D : JD} {p s a base : Nat} {src : Str} {h h' h'' h0 : JH} {σ σ' σ'' σ0 : PS} {ρ ρ' ρ'' ρ0 : Nat → Nat} {n m n' m' : Int} {d c r w arr N : Nat} {t : Str} {ns : List Str} {xs : List Nat}
/-- UPDATE while it is read; its parts are new since N -/
def UpS (N : Nat) (h : JH) (ρ : Nat → Nat) (v : Nat) (t : Str) (ns : List Str) (xs : List Nat) : Prop :=
  (N < v ∧ v ≠ 0 ∧ jkd h v = 30) ∧ RwR h v t ∧ (N < jfr h 132 v ∧ AR h (jfr h 132 v) 149 10 ∧ StsR h (jfr h 132 v) ns) ∧ (N < jfr h 133 v ∧ AR h (jfr h 133 v) 150 10 ∧ ExsR h ρ (jfr h 133 v) xs) ∧ AR h (jfr h 134 v) 151 10 ∧ jfi h 135 v = nI ns.length ∧ ns.length = xs.length ∧ ns.length ≤ 10
theorem UpS.of (k : UpS N h ρ r t ns xs) (sm : ∀ q, skd (jkd h q) = true → same h h' q) (st : ∀ q w, StR h q w → StR h' q w) (hr : ∀ x ∈ xs, ρ' x = ρ x) : UpS N h' ρ' r t ns xs := by
  obtain ⟨⟨k1, k2, k3⟩, k4, ⟨k5, k6, k7⟩, ⟨k8, k9, k10⟩, k11, k12, k13⟩ := k
  have s0 := sm r (by rw [k3]; decide)
  have s1 := sm _ (show skd (jkd h (jfr h 132 r)) = true by rw [k6.2.1]; decide)
  have s2 := sm _ (show skd (jkd h (jfr h 133 r)) = true by rw [k9.2.1]; decide)
  have s3 := sm _ (show skd (jkd h (jfr h 134 r)) = true by rw [k11.2.1]; decide)
  refine ⟨⟨k1, k2, by rw [s0.kd]; exact k3⟩, k4.of s0 (fun q hq => sm q (by rw [hq]; decide)) st, ?_, ?_, ?_, by rw [s0.fi]; exact k12, k13⟩
  · rw [s0.fr]; exact ⟨k5, k6.of s1, k7.of s1 st⟩
  · rw [s0.fr]; exact ⟨k8, k9.of s2, k10.of s2 hr⟩
  · rw [s0.fr]; exact k11.of s3
theorem POk.upS (k : POk D p s a base src h h' σ σ' ρ ρ' n m) (k0 : PsR D p s a base src h σ ρ) (hI : JInv D h) (u : UpS N h ρ r t ns xs) (hx : ∀ x ∈ xs, x < (psA σ).length) : UpS N h' ρ' r t ns xs :=
  u.of (fun q hq => k.obj k0 hI hq) k.2.1.2.2.2.2 fun x hm => k.2.2.1 x (hx x hm)
theorem ArI.st {F kk M q : Nat} {z : Str} (e : ArI D h F r kk M h') (hI : JInv D h) (hk : skd (jkd h r) = true) (k : StR h q z) : StR h' q z := by
  have y0 := skd_or hk
  have y1 := k.2.1
  have y2 := k.2.2.2.2.1
  have sl := k.lt hI
  exact k.of (e.2.1 _ sl.1 fun e => by rw [e] at y1; omega) (e.2.1 _ sl.2 fun e => by rw [e] at y2; omega)
theorem ArI.rw {F kk M : Nat} (e : ArI D h F r kk M h') (hI : JInv D h) (hk : jkd h r = 30) (k : RwR h r t) (hF : F ≠ 129 ∧ F ≠ 130) : RwR h' r t := by
  have y2 := k.2.2.1
  refine ⟨?_, ?_⟩
  · rw [e.2.2.2.2.2.1 _ hF.1.symm]; exact e.st hI (by rw [hk]; decide) k.1
  · rw [e.2.2.2.2.2.1 _ hF.2.symm]
    exact k.2.of (e.2.1 _ (hI.lt (by omega)) fun z => by rw [z] at y2; omega) fun q w z => e.st hI (by rw [hk]; decide) z
theorem ArI.ar {F kk M G k2 M2 : Nat} (e : ArI D h F r kk M h') (hI : JInv D h) (hn : k2 ≠ jkd h r) (h0 : k2 ≠ 0) (hG : G ≠ F) (k : AR h (jfr h G r) k2 M2) : AR h' (jfr h' G r) k2 M2 := by
  have y := k.2.1
  rw [e.2.2.2.2.2.1 _ hG]
  exact k.of (e.2.1 _ (hI.lt (by omega)) fun z => hn (by rw [← y, z]))
theorem w_updInit (k : POk D p s a base src h0 h σ0 σ ρ0 ρ n m) (hI0 : JInv D h0) (hs : s ≤ jsz h0) (hk : jkd h r = 30) (hr : jsz h0 < r) (st : StR h w t) (hz : jfi h 135 r = 0) (hd : 3 ≤ d) :
    cX37_init D d r w h (pV D h (fun h' => POk D p s a base src h0 h' σ0 σ ρ0 ρ (n + 4) (m + 35) ∧ UpS (jsz h0) h' ρ r t [] []) no) := by
  refine JW.inv fun hI => ?_
  have r0 : r ≠ 0 := by omega
  have lt0 : jsz h0 ≤ jsz h := k.2.1.2.2.2.1.1
  have rl : r ≤ jsz h := hI.lt (by omega)
  refine JW.up (n := 3) (fun d => t_X37_init ⟨r0, useV0 (k_rowInit r0) ?_⟩) hd
  rintro h1 _ _ rfl
  obtain ⟨n1, hI1, rw1, fa1, k1, z1⟩ := row_init k hI hI0 hs (Or.inl hk) hr st
  have i1 : jfi (rwH h r w) 135 r = 0 := by show jfi h 135 r = 0; exact hz
  rw [hk] at k1
  generalize rwH h r w = h1 at n1 hI1 rw1 fa1 k1 z1 i1
  rintro r2 h2 rfl rfl h3 q3
  obtain ⟨n3, e3⟩ := ar_init (F := 132) (kk := 149) (N := 10) n1 hI1 hI0 hs (by rw [k1]; decide) hr (by decide) (by decide) (by decide)
  rw [show arF h1 132 r 149 10 = h3 from q3.symm] at n3 e3
  have k3 : jkd h3 r = 30 := by rw [e3.2.2.1]; exact k1
  rintro r4 h4 rfl rfl h5 q5
  obtain ⟨n5, e5⟩ := ar_init (F := 133) (kk := 150) (N := 10) n3 e3.1 hI0 hs (by rw [k3]; decide) hr (by decide) (by decide) (by decide)
  rw [show arF h3 133 r 150 10 = h5 from q5.symm] at n5 e5
  have k5 : jkd h5 r = 30 := by rw [e5.2.2.1]; exact k3
  rintro r6 h6 rfl rfl h7 q7
  obtain ⟨n7, e7⟩ := ar_init (F := 134) (kk := 151) (N := 10) n5 e5.1 hI0 hs (by rw [k5]; decide) hr (by decide) (by decide) (by decide)
  rw [show arF h5 134 r 151 10 = h7 from q7.symm] at n7 e7
  have k7 : jkd h7 r = 30 := by rw [e7.2.2.1]; exact k5
  have a3 : AR h3 (jfr h3 132 r) 149 10 := by rw [e3.2.2.2.2.1]; exact e3.2.2.2.2.2.2.2
  have a5 := e5.ar e3.1 (by rw [k3]; decide) (by decide) (by decide) a3
  have a7 := e7.ar e5.1 (by rw [k5]; decide) (by decide) (by decide) a5
  have b5 : AR h5 (jfr h5 133 r) 150 10 := by rw [e5.2.2.2.2.1]; exact e5.2.2.2.2.2.2.2
  have b7 := e7.ar e5.1 (by rw [k5]; decide) (by decide) (by decide) b5
  have c7 : AR h7 (jfr h7 134 r) 151 10 := by rw [e7.2.2.2.2.1]; exact e7.2.2.2.2.2.2.2
  have x1 : jfr h7 132 r = jsz h1 + 1 := by rw [e7.2.2.2.2.2.1 _ (by decide), e5.2.2.2.2.2.1 _ (by decide), e3.2.2.2.2.1]
  have x2 : jfr h7 133 r = jsz h3 + 1 := by rw [e7.2.2.2.2.2.1 _ (by decide), e5.2.2.2.2.1]
  have y3 := e3.2.2.2.1
  refine endV fun _ _ => ⟨n7.mono (by omega) (by omega), ⟨hr, r0, k7⟩, e7.rw e5.1 k5 (e5.rw e3.1 k3 (e3.rw hI1 k1 rw1 (by decide)) (by decide)) (by decide), ⟨by omega, a7, fun i w hw => by cases hw⟩, ⟨by omega, b7, fun i w hw => by cases hw⟩, c7, ?_, rfl, by decide⟩
  rw [e7.2.2.2.2.2.2.1, e5.2.2.2.2.2.2.1, e3.2.2.2.2.2.2.1, i1]; rfl
end
