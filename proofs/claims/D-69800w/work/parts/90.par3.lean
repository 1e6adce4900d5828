/-! the parser of the component: asking, taking and needing signs -/
theorem tok_w (src : Str) (q : Nat) : (tkK (sTok src q) = 1 → sReserved.contains (tkW (sTok src q)) = true) ∧ (tkK (sTok src q) = 2 → sReserved.contains (tkW (sTok src q)) = false) ∧ (tkK (sTok src q) = 6 → ∃ c l, tkW (sTok src q) = c :: l ∧ sLetter c = false) := by
  unfold sTok
  dsimp only
  split
  · exact ⟨fun h => (by cases h), fun h => (by cases h), fun h => (by cases h)⟩
  · split
    · refine ⟨fun h => ?_, fun h => ?_, fun h => ?_⟩
      · unfold tkK at h; dsimp only at h
        split at h
        · assumption
        · split at h <;> cases h
      · unfold tkK at h; dsimp only at h
        split at h
        · cases h
        · rename_i hr
          exact Bool.eq_false_iff.mpr hr
      · unfold tkK at h; dsimp only at h
        split at h
        · cases h
        · split at h <;> cases h
    · rename_i hl
      have hl : sLetter (sLk src (sSkip src (src.length + 1) q)) = false := Bool.eq_false_iff.mpr hl
      split
      · refine ⟨fun h => ?_, fun h => ?_, fun h => ?_⟩ <;> (unfold tkK at h; dsimp only at h; split at h <;> cases h)
      · split
        · split
          · exact ⟨fun h => (by cases h), fun h => (by cases h), fun h => (by cases h)⟩
          · exact ⟨fun h => (by cases h), fun h => (by cases h), fun h => (by cases h)⟩
        · split
          · refine ⟨fun h => ?_, fun h => ?_, fun h => ?_⟩ <;> (unfold tkK at h; dsimp only at h; split at h <;> cases h)
          · split
            · exact ⟨fun h => (by cases h), fun h => (by cases h), fun _ => ⟨_, _, rfl, hl⟩⟩
            · refine ⟨fun h => ?_, fun h => ?_, fun _ => ⟨_, _, rfl, hl⟩⟩ <;> (unfold tkK at h; dsimp only at h; split at h <;> cases h)
theorem is_word {src : Str} {σ : PS} {w : String} (hw : sReserved.contains (sStr w) = true) (k : WT src σ) : ((tkK (psT σ) = 1 ∨ tkK (psT σ) = 2) ∧ tkW (psT σ) = sStr w) ↔ pIs σ w = true := by
  obtain ⟨q, hq⟩ := k
  obtain ⟨t1, t2, t3⟩ := tok_w src q
  rw [← hq] at t1 t2 t3
  unfold pIs
  simp only [Bool.and_eq_true, Bool.or_eq_true, beq_iff_eq]
  constructor
  · rintro ⟨z | z, e⟩
    · exact ⟨Or.inl z, e⟩
    · have := t2 z
      rw [e, hw] at this; cases this
  · rintro ⟨z | z, e⟩
    · exact ⟨Or.inl z, e⟩
    · obtain ⟨c, l, e1, e2⟩ := t3 z
      have key : ∀ q ∈ sReserved, (match q with | c :: _ => sLetter c | [] => false) = true := by decide +kernel
      have := key _ (List.contains_iff_mem.mp hw)
      rw [← e, e1] at this
      have this : sLetter c = true := this
      rw [e2] at this
      cases this
theorem is_sign {src : Str} {σ : PS} {w : String} (hw : sReserved.contains (sStr w) = false) (k : WT src σ) : (tkK (psT σ) = 6 ∧ tkW (psT σ) = sStr w) ↔ pIs σ w = true := by
  obtain ⟨q, hq⟩ := k
  obtain ⟨t1, t2, t3⟩ := tok_w src q
  rw [← hq] at t1 t2 t3
  unfold pIs
  simp only [Bool.and_eq_true, Bool.or_eq_true, beq_iff_eq]
  constructor
  · rintro ⟨z, e⟩
    exact ⟨Or.inr z, e⟩
  · rintro ⟨z | z, e⟩
    · have := t1 z
      rw [e, hw] at this; cases this
    · exact ⟨z, e⟩
/-- the constant j is the word w, which is reserved or not -/
def cw (j : Nat) (w : String) (r : Bool) : Bool := Nat.ble j 344 && ((jcon j == sStr w) && (sReserved.contains (sStr w) == r))
theorem cw_w {D : JD} {h : JH} {j : Nat} {w : String} {r : Bool} (hI : JInv D h) (hc : cw j w r = true) : StR h (jcs D j) (sStr w) ∧ sReserved.contains (sStr w) = r := by
  simp only [cw, Bool.and_eq_true, Nat.ble_eq, beq_iff_eq] at hc
  have := k_const hI (j := j) (by omega)
  rw [hc.2.1] at this
  exact ⟨this, hc.2.2⟩
theorem is_k {σ : PS} {w : String} (h : pIs σ w = true) : tkK (psT σ) ≠ 0 := fun e => by
  unfold pIs at h
  rw [e] at h
  simp at h
section
variable {D : JD} {p s a base : Nat} {src : Str} {h h' h'' : JH} {σ σ' σ'' : PS} {ρ ρ' ρ'' : Nat → Nat} {n m n' m' : Int} {d : Nat}
theorem w_isWord (k : PsR D p s a base src h σ ρ) (w : String) {j : Nat} (hc : cw j w true = true) (hd : 3 ≤ d) : cX18_isWord D d s (jcs D j) h (pI D h (fun v h' => v = (if pIs σ w = true then 1 else 0) ∧ h' = h) no) := by
  refine JW.inv fun hI => JW.up (n := 3) (fun d => useI0 (k_isWord (d := d) k.2.1 k.k7 (cw_w hI hc).1) ?_) hd
  rintro v h1 _ _ ⟨rfl, rfl⟩
  refine ⟨?_, rfl⟩
  have := is_word (cw_w hI hc).2 k.2.2.2.2.2.1.1
  by_cases e : pIs σ w = true
  · rw [if_pos e, if_pos (this.mpr e)]
  · rw [if_neg e, if_neg fun z => e (this.mp z)]
theorem w_is (k : PsR D p s a base src h σ ρ) (w : String) {j : Nat} (hc : cw j w false = true) (hd : 3 ≤ d) : cX18_is D d s (jcs D j) h (pI D h (fun v h' => v = (if pIs σ w = true then 1 else 0) ∧ h' = h) no) := by
  refine JW.inv fun hI => JW.up (n := 3) (fun d => useI0 (k_is (d := d) k.2.1 k.k7 (cw_w hI hc).1) ?_) hd
  rintro v h1 _ _ ⟨rfl, rfl⟩
  refine ⟨?_, rfl⟩
  have := is_sign (cw_w hI hc).2 k.2.2.2.2.2.1.1
  by_cases e : pIs σ w = true
  · rw [if_pos e, if_pos (this.mpr e)]
  · rw [if_neg e, if_neg fun z => e (this.mp z)]
theorem next_eq (n1 : tkK (sTok src (tkT (psT σ))) ≠ 7) : pNext true src σ = .ok ((), sTok src (tkT (psT σ)), σ.2) := by
  unfold pNext
  dsimp only
  rw [if_neg (by simp [n1])]
theorem next_er (n1 : tkK (sTok src (tkT (psT σ))) = 7) : pNext true src σ = .error (tkF (sTok src (tkT (psT σ))) + 1) := by
  unfold pNext
  dsimp only
  rw [if_pos (by rw [n1]; rfl)]
/-- what comes of taking a sign -/
def TkP (D : JD) (p s a base : Nat) (src : Str) (h : JH) (σ : PS) (ρ : Nat → Nat) (w : String) (v : Int32) (h' : JH) : Prop :=
  ∃ b σ', pTake true src w σ = .ok (b, σ') ∧ v = (if b = true then 1 else 0) ∧ PSg D p s a base src h h' σ σ' ρ ∧ σ'.2 = σ.2 ∧ (b = true → pIs σ w = true ∧ pNext true src σ = .ok ((), σ') ∧ lp σ + 1 ≤ lp σ') ∧ (b = false → pIs σ w = false ∧ h' = h ∧ σ' = σ)
theorem w_takes' {k0 : Bool} (k : PsR D p s a base src h σ ρ) (w : String) {v : Int32} {h1 : JH} (hI : JInv D h) (hle : jle h h1)
    (hc : (pIs σ w = true ∧ v = 1 ∧ tkK (sTok src (tkT (psT σ))) ≠ 7 ∧ SgT D h1 s a base src (sTok src (tkT (psT σ))) ∧ SgF h h1 s 8 200) ∨ (¬ pIs σ w = true ∧ v = 0 ∧ h1 = h)) : TkP D p s a base src h σ ρ w v h1 := by
  rcases hc with ⟨e, rfl, n1, n2, n3⟩ | ⟨e, rfl, rfl⟩
  · refine ⟨true, (sTok src (tkT (psT σ)), σ.2), ?_, rfl, k.step hI hle (is_k e) n1 n2 n3 (Nat.le_refl _) (Nat.le_refl _), rfl, fun _ => ⟨e, next_eq n1, lp_next (is_k e) n1⟩, fun z => by cases z⟩
    unfold pTake
    rw [if_pos e, next_eq n1]; rfl
  · refine ⟨false, σ, ?_, rfl, PSg.rf k, rfl, fun z => (by cases z), fun _ => ⟨Bool.eq_false_iff.mpr e, rfl, rfl⟩⟩
    unfold pTake
    rw [if_neg e]
theorem w_takes (k : PsR D p s a base src h σ ρ) (w : String) {j : Nat} (hc : cw j w false = true) (hd : 11 ≤ d) :
    cX18_takes D d s (jcs D j) h (pI D h (TkP D p s a base src h σ ρ w) (fun x h' => ∃ e, pTake true src w σ = .error e ∧ PErG 0 p s src h h' σ x e)) := by
  refine JW.inv fun hI => ?_
  have e0 := is_sign (cw_w hI hc).2 k.2.2.2.2.2.1.1
  refine JW.up (n := 11) (fun d => useI (k_takes (d := d) k.2.1 k.k7 (cw_w hI hc).1 k.srcl) ?_ ?_) hd
  · rintro v h1 _ hle hv
    refine w_takes' (k0 := true) k w hI hle ?_
    rcases hv with ⟨e, r⟩ | ⟨e, r⟩
    · exact Or.inl ⟨e0.mp e, r⟩
    · exact Or.inr ⟨fun z => e (e0.mpr z), r⟩
  · rintro x h1 _ hle ⟨e, n1, n2, n3⟩
    refine ⟨tkF (sTok src (tkT (psT σ))) + 1, ?_, k.bad hI hle n2 n3 (Nat.le_refl _) (Nat.le_refl _)⟩
    unfold pTake
    rw [if_pos (e0.mp e), next_er n1]; rfl
theorem w_takesWord (k : PsR D p s a base src h σ ρ) (w : String) {j : Nat} (hc : cw j w true = true) (hd : 11 ≤ d) :
    cX18_takesWord D d s (jcs D j) h (pI D h (TkP D p s a base src h σ ρ w) (fun x h' => ∃ e, pTake true src w σ = .error e ∧ PErG 0 p s src h h' σ x e)) := by
  refine JW.inv fun hI => ?_
  have e0 := is_word (cw_w hI hc).2 k.2.2.2.2.2.1.1
  refine JW.up (n := 11) (fun d => useI (k_takesWord (d := d) k.2.1 k.k7 (cw_w hI hc).1 k.srcl) ?_ ?_) hd
  · rintro v h1 _ hle hv
    refine w_takes' (k0 := true) k w hI hle ?_
    rcases hv with ⟨e, r⟩ | ⟨e, r⟩
    · exact Or.inl ⟨e0.mp e, r⟩
    · exact Or.inr ⟨fun z => e (e0.mpr z), r⟩
  · rintro x h1 _ hle ⟨e, n1, n2, n3⟩
    refine ⟨tkF (sTok src (tkT (psT σ))) + 1, ?_, k.bad hI hle n2 n3 (Nat.le_refl _) (Nat.le_refl _)⟩
    unfold pTake
    rw [if_pos (e0.mp e), next_er n1]; rfl
/-- what comes of needing a sign -/
def NdP (D : JD) (p s a base : Nat) (src : Str) (h : JH) (σ : PS) (ρ : Nat → Nat) (w : String) (h' : JH) : Prop :=
  ∃ σ', pNeed true src w σ = .ok ((), σ') ∧ PSg D p s a base src h h' σ σ' ρ ∧ lp σ + 1 ≤ lp σ' ∧ σ'.2 = σ.2
theorem w_need (k : PsR D p s a base src h σ ρ) (w : String) {j : Nat} (hc : cw j w false = true) (hd : 12 ≤ d) :
    cX18_need D d s (jcs D j) h (pV D h (NdP D p s a base src h σ ρ w) (fun x h' => ∃ e, pNeed true src w σ = .error e ∧ PErG 0 p s src h h' σ x e)) := by
  refine JW.inv fun hI => ?_
  have e0 := is_sign (cw_w hI hc).2 k.2.2.2.2.2.1.1
  refine JW.up (n := 12) (fun d => useV (k_need (d := d) k.2.1 k.k7 (cw_w hI hc).1 k.srcl) ?_ ?_) hd
  · rintro h1 _ hle ⟨e, n1, n2, n3⟩
    have e := e0.mp e
    refine ⟨(sTok src (tkT (psT σ)), σ.2), ?_, k.step hI hle (is_k e) n1 n2 n3 (Nat.le_refl _) (Nat.le_refl _), lp_next (is_k e) n1, rfl⟩
    unfold pNeed
    rw [if_pos e, next_eq n1]
  · rintro x h1 _ hle ⟨n1, n2, n3⟩
    by_cases e : pIs σ w = true
    · rw [if_pos (e0.mpr e)] at n1
      refine ⟨_, ?_, k.bad hI hle n1 n3 (Nat.le_refl _) (Nat.le_refl _)⟩
      unfold pNeed
      rw [if_pos e, next_er (n2 (e0.mpr e))]
    · rw [if_neg fun z => e (e0.mp z)] at n1
      refine ⟨_, ?_, k.bad hI hle n1 n3 (Nat.le_refl _) (Nat.le_refl _)⟩
      unfold pNeed
      rw [if_neg e]; rfl
theorem w_needWord (k : PsR D p s a base src h σ ρ) (w : String) {j : Nat} (hc : cw j w true = true) (hd : 12 ≤ d) :
    cX18_needWord D d s (jcs D j) h (pV D h (NdP D p s a base src h σ ρ w) (fun x h' => ∃ e, pNeed true src w σ = .error e ∧ PErG 0 p s src h h' σ x e)) := by
  refine JW.inv fun hI => ?_
  have e0 := is_word (cw_w hI hc).2 k.2.2.2.2.2.1.1
  refine JW.up (n := 12) (fun d => useV (k_needWord (d := d) k.2.1 k.k7 (cw_w hI hc).1 k.srcl) ?_ ?_) hd
  · rintro h1 _ hle ⟨e, n1, n2, n3⟩
    have e := e0.mp e
    refine ⟨(sTok src (tkT (psT σ)), σ.2), ?_, k.step hI hle (is_k e) n1 n2 n3 (Nat.le_refl _) (Nat.le_refl _), lp_next (is_k e) n1, rfl⟩
    unfold pNeed
    rw [if_pos e, next_eq n1]
  · rintro x h1 _ hle ⟨n1, n2, n3⟩
    by_cases e : pIs σ w = true
    · rw [if_pos (e0.mpr e)] at n1
      refine ⟨_, ?_, k.bad hI hle n1 n3 (Nat.le_refl _) (Nat.le_refl _)⟩
      unfold pNeed
      rw [if_pos e, next_er (n2 (e0.mpr e))]
    · rw [if_neg fun z => e (e0.mp z)] at n1
      refine ⟨_, ?_, k.bad hI hle n1 n3 (Nat.le_refl _) (Nat.le_refl _)⟩
      unfold pNeed
      rw [if_neg e]; rfl
/-- broken signs, as the parser says it -/
theorem w_brokenS (k : PsR D p s a base src h σ ρ) (hd : 7 ≤ d) : cX18_broken D d s h (pR D h 9 (fun v h' => PErG 0 p s src h h' σ v (tkF (psT σ) + 1)) no) := by
  refine JW.inv fun hI => JW.up (n := 7) (fun d => useR0 (k_broken (d := d) k.2.1.1 k.2.1.2.1 (by have := k.2.1.2.2.2.2.2.2.2; have := k.srcl; omega)) ?_) hd
  rintro v h1 _ hle ⟨f1, f2⟩
  exact k.bad hI hle f1 f2.1 (by omega) (by omega)
theorem w_broken (k : PsR D p s a base src h σ ρ) (hd : 8 ≤ d) : cX17_broken D d p h (pR D h 9 (fun v h' => PErG 0 p s src h h' σ v (tkF (psT σ) + 1)) no) := by
  obtain ⟨e, rfl, he⟩ := dsucc hd
  refine t_X17_broken ⟨k.1.2.1, k.sg, ?_⟩
  rw [k.1.2.2.1]
  refine useR0 (w_brokenS k he) ?_
  rintro v h1 _ _ hx
  exact endR fun _ _ _ => hx
/-- the hash of a string may have been kept -/
theorem HS.sgf {D : JD} {h h' : JH} {s : Nat} (hI : JInv D h) (hh : HS h h') (hs : jkd h s = 15) : PFr h h' p s ∧ (∀ q, jkd h q ≠ 12 → same h h' q) ∧ jsz h' = jsz h ∧ jus h' = jus h ∧ (∀ F q, jfr h' F q = jfr h F q) := by
  rcases hh with rfl | ⟨r, w, hr, hk, rfl | ⟨rfl, _⟩⟩
  · exact ⟨PFr.rf _ _ _, fun q _ => same.rf _ _, rfl, rfl, fun _ _ => rfl⟩
  · refine ⟨⟨fr_wfi (Or.inl (Or.inr (Or.inr (Or.inr (Or.inr hk))))), rfl, Or.inl rfl, ⟨Nat.le_refl _, fun _ => Or.inl rfl⟩, fun q w' z => ?_⟩, fun q hq => same_wfi fun e => hq (e ▸ hk), rfl, rfl, fun _ _ => rfl⟩
    exact HS.st (Or.inr ⟨r, w, hr, hk, Or.inl rfl⟩) z
  · refine ⟨⟨fr_wfi (Or.inl (Or.inr (Or.inr (Or.inr (Or.inr hk))))), rfl, Or.inl rfl, ⟨Nat.le_refl _, fun _ => Or.inl rfl⟩, fun q w' z => ?_⟩, fun q hq => same_wfi fun e => hq (e ▸ hk), rfl, rfl, fun _ _ => rfl⟩
    exact HS.st (Or.inr ⟨r, w, hr, hk, Or.inr ⟨rfl, ‹_›⟩⟩) z
end
