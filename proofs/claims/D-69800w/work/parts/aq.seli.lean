/-! the parser of the component: SELECT, its constructor -/
section
variable {D : JD} {p s a base : Nat} {src : Str} {h h' h'' h0 : JH} {σ σ' σ'' σ0 : PS} {ρ ρ' ρ'' ρ0 : Nat → Nat} {n m n' m' : Int} {d c r w arr N L L' : Nat} {ds : Bool} {l : List (Nat × Nat × Nat)} {v : Int64}
def SelP (N : Nat) (l : List (Nat × Nat × Nat)) (h : JH) (r : Nat) : Prop := ∀ x ∈ l, N < jfr h x.1 r ∧ AR h (jfr h x.1 r) x.2.1 x.2.2
theorem ArI.snoc {F kk M : Nat} (e : ArI D h F r kk M h') (hI : JInv D h) (hkr : jkd h r = 33) (P : SelP N l h r) (hl : ∀ x ∈ l, x.1 ≠ F ∧ x.2.1 ≠ 33 ∧ x.2.1 ≠ 0) (hN : N ≤ jsz h) : SelP N (l ++ [(F, kk, M)]) h' r := fun x hx => by
  rcases List.mem_append.mp hx with z | z
  · have y := P x z
    exact ⟨by rw [e.2.2.2.2.2.1 _ (hl x z).1]; exact y.1, e.ar hI (by rw [hkr]; exact (hl x z).2.1) (hl x z).2.2 (hl x z).1 y.2⟩
  · rw [List.mem_singleton.mp z]
    show N < jfr h' F r ∧ AR h' (jfr h' F r) kk M
    rw [e.2.2.2.2.1]
    exact ⟨by omega, e.2.2.2.2.2.2.2⟩
def SelI (D : JD) (p s a base : Nat) (src : Str) (h0 : JH) (σ0 σ : PS) (ρ0 ρ : Nat → Nat) (r : Nat) (l : List (Nat × Nat × Nat)) (h : JH) (n m : Int) (v : Int64) : Prop :=
  POk D p s a base src h0 h σ0 σ ρ0 ρ n m ∧ JInv D h ∧ jkd h r = 33 ∧ SelP (jsz h0) l h r ∧ (∀ G, jfi h G r = 0) ∧ (jfr h 146 r = 0 ∧ jfr h 149 r = 0) ∧ jfl h 154 r = v ∧ jfl h 155 r = 0
theorem SelI.step {F kk M : Nat} (k : SelI D p s a base src h0 σ0 σ ρ0 ρ r l h n m v) (hI0 : JInv D h0) (hs : s ≤ jsz h0) (hr : jsz h0 < r) (hl : ∀ x ∈ l, x.1 ≠ F ∧ x.2.1 ≠ 33 ∧ x.2.1 ≠ 0) (hc : (ckd kk || vkd kk) = false) (hj : jkk kk = true) (ht : sbt kk (ftg F) = true) (h46 : F ≠ 146 ∧ F ≠ 149) (q : h' = arF h F r kk M) (hF : F ≠ 67 ∧ F ≠ 108 ∧ F ≠ 111 ∧ F ≠ 115 ∧ F ≠ 269 := by decide) : SelI D p s a base src h0 σ0 σ ρ0 ρ r (l ++ [(F, kk, M)]) h' (n + 1) (m + M) v := by
  obtain ⟨k1, k2, k3, k4, k5, k6, k7, k8⟩ := k
  obtain ⟨n1, e1⟩ := ar_init (F := F) (kk := kk) (N := M) k1 k2 hI0 hs (by rw [k3]; decide) hr hc hj ht hF
  have lt0 : jsz h0 ≤ jsz h := k1.2.1.2.2.2.1.1
  subst q
  exact ⟨n1, e1.1, by rw [e1.2.2.1]; exact k3, e1.snoc k2 k3 k4 hl lt0, fun G => by rw [e1.2.2.2.2.2.2.1]; exact k5 G, ⟨by rw [e1.2.2.2.2.2.1 _ (fun z => h46.1 z.symm)]; exact k6.1, by rw [e1.2.2.2.2.2.1 _ (fun z => h46.2 z.symm)]; exact k6.2⟩, k7, k8⟩
theorem SelI.lim {v' : Int64} (S : SelI D p s a base src h0 σ0 σ ρ0 ρ r l h n m v) (hI0 : JInv D h0) (hs : s ≤ jsz h0) (hr : jsz h0 < r) (q : h' = wfl h 154 r v') : SelI D p s a base src h0 σ0 σ ρ0 ρ r l h' n m v' := by
  obtain ⟨k1, k2, k3, k4, k5, k6, k7, k8⟩ := S
  subst q
  exact ⟨k1.sfl k2 hI0 hs (by rw [k3]; decide) hr, k2.wfl (k2.2.1 _ (by rw [k3]; decide)) (k2.lt (by rw [k3]; decide)), k3, k4, k5, k6, by rw [jfl_wfl, if_pos ⟨rfl, rfl⟩], by rw [jfl_wfl, if_neg fun z => absurd z.1 (by decide)]; exact k8⟩
theorem w_selInit {x : Int32} (k : POk D p s a base src h0 h σ0 σ ρ0 ρ n m) (hI0 : JInv D h0) (hs : s ≤ jsz h0) (hk : jkd h r = 33) (hr : jsz h0 < r) (zi : ∀ F, jfi h F r = 0) (zr : ∀ F, jfr h F r = 0) (zl : ∀ F, jfl h F r = 0) (hx : x = if ds = true then 1 else 0) (hd : 2 ≤ d) :
    cX40_init D d r x h (pV D h (fun h' => POk D p s a base src h0 h' σ0 σ ρ0 ρ (n + 9) (m + 95) ∧ SelS (jsz h0) h' ρ L r 0 ds [] [] none [] none [] none 0) no) := by
  obtain ⟨e, rfl, he⟩ := dsucc hd
  subst hx
  have r0 : r ≠ 0 := by omega
  refine JW.inv fun hI => t_X40_init ⟨r0, JW.up (n := 1) (fun _ => t_X20_init ⟨r0, endV fun _ _ => ?_⟩) he⟩
  have S0 : SelI D p s a base src h0 σ0 σ ρ0 ρ r [] h n m 0 := ⟨k, hI, hk, fun x hx => (by cases hx), zi, ⟨zr _, zr _⟩, zl _, zl _⟩
  rintro r1 h1 rfl rfl h2 q2
  have S2 := S0.step (h' := h2) (F := 142) (kk := 152) (M := 12) hI0 hs hr (by decide) (by decide) (by decide) (by decide) (by decide) q2
  rintro r3 h3 rfl rfl h4 q4
  have S4 := S2.step (h' := h4) (F := 144) (kk := 153) (M := 3) hI0 hs hr (by decide) (by decide) (by decide) (by decide) (by decide) q4
  rintro r5 h5 rfl rfl h6 q6
  have S6 := S4.step (h' := h6) (F := 147) (kk := 154) (M := 8) hI0 hs hr (by decide) (by decide) (by decide) (by decide) (by decide) q6
  rintro r7 h7 rfl rfl h8 q8
  have S8 := S6.step (h' := h8) (F := 150) (kk := 155) (M := 8) hI0 hs hr (by decide) (by decide) (by decide) (by decide) (by decide) q8
  rintro r9 h9 rfl rfl h10 q10
  have S10 := S8.step (h' := h10) (F := 151) (kk := 156) (M := 8) hI0 hs hr (by decide) (by decide) (by decide) (by decide) (by decide) q10
  rintro r11 h11 rfl rfl h12 q12
  have S12 := S10.step (h' := h12) (F := 152) (kk := 157) (M := 8) hI0 hs hr (by decide) (by decide) (by decide) (by decide) (by decide) q12
  rintro h13 q13
  have S13 := S12.lim (h' := h13) (v' := 9007199254740991) hI0 hs hr q13
  rintro r14 h14 rfl rfl h15 q15
  have S15 := S13.step (h' := h15) (F := 156) (kk := 158) (M := 16) hI0 hs hr (by decide) (by decide) (by decide) (by decide) (by decide) q15
  rintro r16 h16 rfl rfl h17 q17
  have S17 := S15.step (h' := h17) (F := 157) (kk := 159) (M := 16) hI0 hs hr (by decide) (by decide) (by decide) (by decide) (by decide) q17
  rintro r18 h18 rfl rfl h19 q19
  have S19 := S17.step (h' := h19) (F := 158) (kk := 160) (M := 16) hI0 hs hr (by decide) (by decide) (by decide) (by decide) (by decide) q19
  obtain ⟨k1, k2, k3, k4, k5, k6, k7, k8⟩ := S19
  refine ⟨by cases ds; exact jbo0; exact jbo1, ?_⟩
  rintro h20 rfl
  have b19 : SelB (jsz h0) h19 r := ⟨⟨hr, r0, k3⟩, k4⟩
  obtain ⟨o1, _, o3, o4, o5, o6⟩ := b19.own (h' := wfi h19 141 r (if ds = true then 1 else 0)) (ρ := ρ) (L := L) (fun q hq => same_wfi hq) rfl (fun x hx => rfl)
  have i1 : ∀ F, F ≠ 141 → jfi (wfi h19 141 r (if ds = true then 1 else 0)) F r = jfi h19 F r := fun F hF => by rw [jfi_wfi, if_neg fun z => hF z.1]
  refine endV fun _ _ => ⟨(k1.sfi k2 hI0 hs (by rw [k3]; decide) hr).mono (by omega) (by omega), o1, o3 _ _ ⟨fun i w hw => (by cases hw), k5 _, fun x hx => by cases hx⟩ (i1 _ (by decide)), o4 _ ⟨fun i w hw => (by cases hw), ⟨k5 _, by decide⟩, fun x hx => by cases hx⟩ (i1 _ (by decide)), o5 _ ⟨fun i w hw => (by cases hw), ⟨k5 _, by decide⟩, fun x hx => by cases hx⟩ (i1 _ (by decide)), o6 _ ⟨fun i w hw => (by cases hw), ⟨k5 _, by decide⟩, fun x hx => by cases hx⟩ (i1 _ (by decide)), ?_, ⟨k6.1, fun x hx => by cases hx⟩, ⟨k6.2, fun x hx => by cases hx⟩, k7, k8⟩
  rw [jfi_wfi, if_pos ⟨rfl, rfl⟩]
end
