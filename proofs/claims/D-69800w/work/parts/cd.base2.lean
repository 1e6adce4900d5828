/-! the component: all tables are copied -/
section
variable {D : JD} {h h' h'' h0 h1 h2 : JH} {d ka kc nn RA k j q c t u r w B B' s : Nat} {tb : Tab} {T T' : List Tab} {nm : Str}
def bK (k : Nat) : Bool := tK k || (Nat.beq k 114 || (Nat.beq k 115 || Nat.beq k 139))
theorem bK_tK (k : Nat) (e : tK k = true) : bK k = true := by unfold bK; rw [e]; rfl
def nbk (h : JH) (B k : Nat) : Nat := nz h (jfr h 45 (tba h B k)) 100
/-- how many rows of the base are still to be made -/
def nb (h : JH) (B : Nat) : Nat := nbk h B 0 + nbk h B 1 + nbk h B 2 + nbk h B 3
/-- only the base B has changed -/
def BF (D : JD) (B : Nat) (h h' : JH) : Prop :=
  KF bK h h' ∧ (∀ u, (∀ k, k < 4 → u ≠ tba h B k) → TabW D h u → TbS h h' u) ∧ (OT h → OT h') ∧ (jfr h' 40 B = jfr h 40 B ∧ BasW D h' B) ∧ (∀ B', B' ≠ B → BasW D h B' → jfr h 40 B' ≠ jfr h 40 B → same h h' B' ∧ same h h' (jfr h 40 B')) ∧ (∀ k, k < 4 → ∃ k', k' < 4 ∧ tba h' B k = tba h B k') ∧
  Sp h h' (21 * ((nb h B : Int) - nb h' B)) (460 * ((nb h B : Int) - nb h' B))
theorem BF.rf (k : BasW D h B) : BF D B h h := ⟨KF.rf, fun _ _ _ => TbS.rf, id, ⟨rfl, k⟩, fun _ _ _ _ => ⟨same.rf _ _, same.rf _ _⟩, fun k hk => ⟨k, hk, rfl⟩, (Sp.rf _).mono (by omega) (by omega)⟩
theorem BasW.of (k : BasW D h B') (s1 : same h h' B') (s2 : same h h' (jfr h 40 B')) (s3 : ∀ k, k < 4 → TabW D h' (tba h B' k)) : BasW D h' B' := by
  obtain ⟨⟨k1, k2⟩, ⟨k3, k4⟩, k5⟩ := k
  refine ⟨⟨k1, by rw [s1.kd]; exact k2⟩, by rw [s1.fr, s2.ln]; exact ⟨k3, k4⟩, fun k hk => ?_⟩
  have : tba h' B' k = tba h B' k := by unfold tba; rw [s1.fr, s2.ar]
  rw [this]
  exact s3 k hk
/-- tables of different bases are different -/
theorem tba_ne {k' : Nat} (hI : JInv D h) (ot : OT h) (k1 : BasW D h B) (k2 : BasW D h B') (na : jfr h 40 B' ≠ jfr h 40 B) (hk : k < 4) : tba h B' k ≠ tba h B k' := by
  intro e
  have a1 : jkd h (jfr h 40 B) = 139 := hI.ref (F := 40) (by decide +kernel) k1.2.1.1
  have a2 : jkd h (jfr h 40 B') = 139 := hI.ref (F := 40) (by decide +kernel) k2.2.1.1
  exact na (ot.1 _ _ _ _ (by rw [a2]; rfl) (by rw [a1]; rfl) e (k2.2.2 k hk).1.1).1
theorem tba_ne' {k' : Nat} (hI : JInv D h) (ot : OT h) (k1 : BasW D h B) (hk : k < 4) (ne : k ≠ k') : tba h B k ≠ tba h B k' := by
  intro e
  have a1 : jkd h (jfr h 40 B) = 139 := hI.ref (F := 40) (by decide +kernel) k1.2.1.1
  exact ne (ot.1 _ _ _ _ (by rw [a1]; rfl) (by rw [a1]; rfl) e (k1.2.2 k hk).1.1).2
theorem BF.tr (hI : JInv D h) (ot : OT h) (k0 : BasW D h B) (a : BF D B h h') (b : BF D B h' h'') : BF D B h h'' := by
  obtain ⟨a1, a2, a3, ⟨a4, a4'⟩, a5, a6, a7⟩ := a
  obtain ⟨b1, b2, b3, ⟨b4, b4'⟩, b5, b6, b7⟩ := b
  have ex : ∀ u, (∀ k, k < 4 → u ≠ tba h B k) → ∀ k, k < 4 → u ≠ tba h' B k := fun u hu k hk e => by
    obtain ⟨k', k1, k2⟩ := a6 k hk
    exact hu k' k1 (e.trans k2)
  refine ⟨a1.tr b1, fun u hu uw => (a2 u hu uw).tr (b2 u (ex u hu) (uw.of (a2 u hu uw))), fun o => b3 (a3 o), ⟨b4.trans a4, b4'⟩, fun B' hB bw na => ?_, fun k hk => ?_, (a7.tr b7).mono (by omega) (by omega)⟩
  · obtain ⟨c1, c2⟩ := a5 B' hB bw na
    have bw' : BasW D h' B' := bw.of c1 c2 fun k hk => (bw.2.2 k hk).of (a2 _ (fun k' hk' => tba_ne hI ot k0 bw na hk) (bw.2.2 k hk))
    have := b5 B' hB bw' (by rw [c1.fr, a4]; exact na)
    rw [c1.fr] at this
    exact ⟨c1.tr this.1, c2.tr this.2⟩
  · obtain ⟨k', k1, k2⟩ := b6 k hk
    obtain ⟨k'', k3, k4⟩ := a6 k' k1
    exact ⟨k'', k3, k2.trans k4⟩
theorem ColsR.bf {l : List Col} (k : ColsR D h r l) (a : KF bK h h') (hI : JInv D h) : ColsR D h' r l := k.kf a hI ⟨rfl, rfl⟩ ⟨rfl, rfl, rfl, rfl⟩
theorem TabR.ofB (k : TabR D h u tb) (s : TbS h h' u) (a : KF bK h h') (hI : JInv D h) : TabR D h' u tb := by
  obtain ⟨k1, k2, k3, k4, k5, k6⟩ := k
  obtain ⟨s1, s2, s3⟩ := s
  refine ⟨k1.of ⟨s1, s2, s3⟩, by rw [s1.fr]; exact a.str hI k2 ⟨rfl, rfl, rfl, rfl⟩, by rw [s1.fr]; exact k3.bf a hI, by rw [s1.fi]; exact k4, by rw [s1.fi]; exact k5, fun i r hr => ?_⟩
  obtain ⟨r1, r2⟩ := k6 i r hr
  have il : i < 100 := by
    have := (List.getElem?_eq_some_iff.mp hr).1
    have := k5.2
    omega
  obtain ⟨t1, t2⟩ := s3 i il r1
  refine ⟨by rw [s1.fr, s2.ar]; exact r1, fun c hc => ?_⟩
  have cl : c < 10 := by have := k3.2.2.2.1; omega
  unfold tce
  rw [s1.fr, s2.ar, t1.ar]
  exact (r2 c hc).of (t2 c cl).1 (t2 c cl).2
/-- another base stays -/
theorem BasR.of (k : BasR D h B' T) (a : BF D B h h') (hI : JInv D h) (ot : OT h) (k0 : BasW D h B) (ne : B' ≠ B) (na : jfr h 40 B' ≠ jfr h 40 B) : BasR D h' B' T := by
  obtain ⟨k1, k2, k3⟩ := k
  obtain ⟨c1, c2⟩ := a.2.2.2.2.1 B' ne k1 na
  have s : ∀ k, k < 4 → TbS h h' (tba h B' k) := fun k hk => a.2.1 _ (fun k' _ => tba_ne hI ot k0 k1 na hk) (k1.2.2 k hk)
  refine ⟨k1.of c1 c2 fun k hk => (k1.2.2 k hk).of (s k hk), by rw [c1.fi]; exact k2, fun k tb ht => ?_⟩
  have : tba h' B' k = tba h B' k := by unfold tba; rw [c1.fr, c2.ar]
  rw [this]
  have kl := (List.getElem?_eq_some_iff.mp ht).1
  exact (k3 k tb ht).ofB (s k (by omega)) a.1 hI
/-- one table of the base changes -/
theorem TF.bf (hI : JInv D h) (ot : OT h) (kb : BasW D h B) (hk : k < 4) (a : TF D (tba h B k) h h') : BF D B h h' ∧ same h h' B ∧ same h h' (jfr h 40 B) := by
  obtain ⟨a1, a2, a3, a4, a5, a6⟩ := a
  have a39 : jkd h (jfr h 40 B) = 139 := hI.ref (F := 40) (by decide +kernel) kb.2.1.1
  have bs : ∀ B', BasW D h B' → same h h' B' ∧ same h h' (jfr h 40 B') := fun B' bw => by
    have a39 : jkd h (jfr h 40 B') = 139 := hI.ref (F := 40) (by decide +kernel) bw.2.1.1
    have kB := bw.1.2
    refine ⟨a1.obj hI (by omega) (by omega) ?_, a1.obj hI (by omega) (by omega) (by rw [a39]; rfl)⟩
    rcases kB with e | e <;> rw [e] <;> rfl
  obtain ⟨s1, s2⟩ := bs B kb
  have et : ∀ k', tba h' B k' = tba h B k' := fun k' => by unfold tba; rw [s1.fr, s2.ar]
  have oth : ∀ k', k' < 4 → k' ≠ k → TbS h h' (tba h B k') := fun k' hk' z => a2 _ (tba_ne' hI ot kb hk' z) (kb.2.2 k' hk')
  have en : ∀ k', k' < 4 → k' ≠ k → nbk h' B k' = nbk h B k' := fun k' hk' z => by
    have o := oth k' hk' z
    unfold nbk
    rw [et, o.1.fr]
    exact nz_same fun i _ => o.2.1.ar i
  have ek : nbk h' B k = nz h' (jfr h 45 (tba h B k)) 100 := by unfold nbk; rw [et, a3]
  refine ⟨⟨a1.mono bK_tK, fun u hu uw => a2 u (hu k hk) uw, a4, ⟨s1.fr 40, kb.of s1 s2 fun k' hk' => ?_⟩, fun B' _ bw _ => bs B' bw, fun k' hk' => ⟨k', hk', et k'⟩, ?_⟩, s1, s2⟩
  · by_cases z : k' = k
    · rw [z]; exact a5 (kb.2.2 k hk)
    · exact (kb.2.2 k' hk').of (oth k' hk' z)
  · have : (nb h B : Int) - nb h' B = (nz h (jfr h 45 (tba h B k)) 100 : Int) - nz h' (jfr h 45 (tba h B k)) 100 := by
      have e0 : nbk h B k = nz h (jfr h 45 (tba h B k)) 100 := rfl
      unfold nb
      rw [← ek, ← e0]
      rcases (show k = 0 ∨ k = 1 ∨ k = 2 ∨ k = 3 by omega) with z | z | z | z
      · rw [z, en 1 (by omega) (by omega), en 2 (by omega) (by omega), en 3 (by omega) (by omega)]; omega
      · rw [z, en 0 (by omega) (by omega), en 2 (by omega) (by omega), en 3 (by omega) (by omega)]; omega
      · rw [z, en 0 (by omega) (by omega), en 1 (by omega) (by omega), en 3 (by omega) (by omega)]; omega
      · rw [z, en 0 (by omega) (by omega), en 1 (by omega) (by omega), en 2 (by omega) (by omega)]; omega
    rw [this]
    exact a6
/-- the count of the base is written -/
theorem BF.cnt {x : Int32} (hI : JInv D h) (kb : BasW D h B) : BF D B h (wfi h 41 B x) := by
  have kB := kb.1.2
  have tw : ∀ u, TabW D h u → TbS h (wfi h 41 B x) u := fun u uw => by
    have k140 := hI.k140 u uw.2.1.1
    have nk : ∀ q, jkd h q < 112 ∨ 116 < jkd h q → same h (wfi h 41 B x) q := fun q hq => same_wfi fun z => by rw [z] at hq; omega
    refine ⟨nk u (by rw [uw.1.2]; decide), nk _ (by rw [k140]; decide), fun k' hk' hr' => ?_⟩
    have ru := (uw.2.2 k' hk').resolve_left hr'
    refine ⟨nk _ (by rw [ru.2.1]; decide), fun j' hj' => ?_⟩
    have cu := ru.2.2.2 j' hj'
    exact ⟨nk _ (by rw [cu.2]; decide), fun z => nk _ (by rw [(cu.1.2.2.2.2.resolve_left z).1]; decide)⟩
  refine ⟨⟨fun q _ _ q3 _ => same_wfi fun z => ?_, Nat.le_refl _, fun _ _ => rfl, fun o => o⟩, fun u _ uw => tw u uw, fun o => o, ⟨rfl, kb.1, kb.2.1, fun k hk => (kb.2.2 k hk).of (tw _ (kb.2.2 k hk))⟩, fun B' hB bw _ => ⟨same_wfi hB, same_wfi fun z => ?_⟩, fun k hk => ⟨k, hk, rfl⟩, Sp.fi.mono ?_ ?_⟩
  · rw [z] at q3
    rcases kB with e | e <;> rw [e] at q3 <;> cases q3
  · have a39 : jkd h (jfr h 40 B') = 139 := hI.ref (F := 40) (by decide +kernel) bw.2.1.1
    rw [z] at a39; omega
  · have : nb (wfi h 41 B x) B = nb h B := rfl
    rw [this]; omega
  · have : nb (wfi h 41 B x) B = nb h B := rfl
    rw [this]; omega
theorem w_bcpL (hI : JInv D h) (kb : BasW D h B) (ko : BasR D h B' T) (ne : B' ≠ B) (na : jfr h 40 B' ≠ jfr h 40 B) (ot : OT h) (ow : OW h) (hd : 10 ≤ d) :
    ∀ (m k : Nat) (h1 : JH), k + m = T.length → JInv D h1 → BF D B h h1 → jfi h1 41 B = nI T.length → (∀ k' tb, k' < k → T[k']? = some tb → TabR D h1 (tba h1 B k') tb) → L_X4_copy_10 D d (pV D h (fun h' => BF D B h h' ∧ BasR D h' B T ∧ BasR D h' B' T) no) (m + 1) B B' (nI k) h1
  | m, k, h1, hkm, hI1, a, e1, hT => by
    have kb1 := a.2.2.2.1.2
    have ko1 : BasR D h1 B' T := ko.of a hI ot kb ne na
    have ot1 := a.2.2.1 ot
    have ow1 := a.1.2.2.2 ow
    have s' := a.2.2.2.2.1 B' ne ko.1 na
    have na1 : jfr h1 40 B' ≠ jfr h1 40 B := by rw [s'.1.fr, a.2.2.2.1.1]; exact na
    have l4 := ko.2.1.2
    refine ⟨kb.1.1, fun y => ?_, fun y => ?_⟩
    · rw [e1] at y
      have y := (nI_leI (by omega) (by omega)).mp y
      refine endV fun _ _ => ⟨a, ⟨kb1, ⟨e1, l4⟩, fun k' tb ht => hT k' tb ?_ ht⟩, ko1⟩
      have := (List.getElem?_eq_some_iff.mp ht).1
      omega
    · rw [e1] at y
      have kl : k < T.length := Nat.lt_of_not_le fun z => y ((nI_leI (by omega) (by omega)).mpr z)
      obtain ⟨m', rfl⟩ : ∃ m', m = m' + 1 := ⟨m - 1, by omega⟩
      have ht : T[k]? = some T[k] := List.getElem?_eq_getElem kl
      have ix : ixn (nI k) = k := ixn_nI (by omega)
      refine ⟨kb1.2.1.1, by rw [kb1.2.1.2]; exact jin_nI (by omega) (by decide), ko.1.1.1, ko1.1.2.1.1, by rw [ko1.1.2.1.2]; exact jin_nI (by omega) (by decide), ?_⟩
      rw [ix]
      have tw := kb1.2.2 k (by omega)
      refine ⟨tw.1.1, useV0 (w_tcopy tw (ko1.2.2 k _ ht) (tba_ne hI1 ot1 kb1 ko1.1 na1 (by omega)) ot1 ow1 hd) ?_⟩
      rintro h2 hI2 hle ⟨tf, tr⟩
      obtain ⟨bf, s1, s2⟩ := tf.bf hI1 ot1 kb1 (show k < 4 by omega)
      have et : ∀ k', tba h2 B k' = tba h1 B k' := fun k' => by unfold tba; rw [s1.fr, s2.ar]
      rw [nI_1]
      refine w_bcpL hI kb ko ne na ot ow hd m' (k + 1) h2 (by omega) hI2 (a.tr hI ot kb bf) (by rw [s1.fi]; exact e1) fun k' tb hk' ht' => ?_
      rw [et]
      by_cases z : k' = k
      · rw [z]
        rw [z, ht] at ht'
        cases ht'
        exact tr
      · have := (List.getElem?_eq_some_iff.mp ht').1
        exact (hT k' tb (by omega) ht').of (tf.2.1 _ (tba_ne' hI1 ot1 kb1 (by omega) z) (kb1.2.2 k' (by omega))) tf.1 hI1
theorem w_bcopy (kb : BasW D h B) (ko : BasR D h B' T) (ne : B' ≠ B) (na : jfr h 40 B' ≠ jfr h 40 B) (ot : OT h) (ow : OW h) (hd : 11 ≤ d) : cX4_copy D d B B' h (pV D h (fun h' => BF D B h h' ∧ BasR D h' B T ∧ BasR D h' B' T) no) := by
  obtain ⟨e, rfl, he⟩ := dsucc hd
  refine JW.inv fun hI => t_X4_copy ⟨ko.1.1.1, kb.1.1, ?_⟩
  rintro h1 rfl
  have hB : jkd h B ≠ 0 := by have := kb.1.2; omega
  have hI1 : JInv D (wfi h 41 B (jfi h 41 B')) := hI.wfi (hI.2.1 B (by rcases kb.1.2 with e | e <;> rw [e] <;> rfl)) (hI.lt hB)
  exact ⟨T.length + 1, w_bcpL hI kb ko ne na ot ow (by omega) T.length 0 _ (by omega) hI1 (BF.cnt hI kb) (by rw [jfi_wfi, if_pos ⟨rfl, rfl⟩]; exact ko.2.1.1) fun k' tb hk' => absurd hk' (Nat.not_lt_zero _)⟩
end
