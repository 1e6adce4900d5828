/-! asking signs -/
theorem kc_ne {D : JD} {h : JH} (hI : JInv D h) {i j : Nat} (hi : i < 373 ∧ jenm i = true) (hj : j < 373 ∧ jenm j = true) (e : jcs D i = jcs D j) : i = j :=
  (hI.2.2.2.2.2.2.2.2.2 j hj.1 hj.2).2.2.2.2 i hi.1 hi.2 e
/-- the kinds of signs -/
theorem tok_k (src : Str) (p : Nat) : tkK (sTok src p) < 8 := by
  unfold sTok tkK
  dsimp only
  split
  · dsimp only; decide
  · split
    · dsimp only; split
      · decide
      · split <;> decide
    · split
      · dsimp only; split <;> decide
      · split
        · split <;> (dsimp only; decide)
        · split
          · dsimp only; split <;> decide
          · split
            · dsimp only; decide
            · dsimp only; split <;> decide
theorem kcon_sign {D : JD} {h : JH} (hI : JInv D h) {k : Nat} (hk : k < 7) : kcon D k = jcs D 355 ↔ k = 6 := by
  have inj := fun {i j : Nat} (hi : i < 373 ∧ jenm i = true) (hj : j < 373 ∧ jenm j = true) (e : jcs D i = jcs D j) => kc_ne hI hi hj e
  rcases (show k = 0 ∨ k = 1 ∨ k = 2 ∨ k = 3 ∨ k = 4 ∨ k = 5 ∨ k = 6 by omega) with rfl | rfl | rfl | rfl | rfl | rfl | rfl
  · exact ⟨fun e => absurd (inj ⟨by decide, by decide⟩ ⟨by decide, by decide⟩ e) (by decide), fun e => by cases e⟩
  · exact ⟨fun e => absurd (inj ⟨by decide, by decide⟩ ⟨by decide, by decide⟩ e) (by decide), fun e => by cases e⟩
  · exact ⟨fun e => absurd (inj ⟨by decide, by decide⟩ ⟨by decide, by decide⟩ e) (by decide), fun e => by cases e⟩
  · exact ⟨fun e => absurd (inj ⟨by decide, by decide⟩ ⟨by decide, by decide⟩ e) (by decide), fun e => by cases e⟩
  · exact ⟨fun e => absurd (inj ⟨by decide, by decide⟩ ⟨by decide, by decide⟩ e) (by decide), fun e => by cases e⟩
  · exact ⟨fun e => absurd (inj ⟨by decide, by decide⟩ ⟨by decide, by decide⟩ e) (by decide), fun e => by cases e⟩
  · exact ⟨fun _ => rfl, fun _ => rfl⟩
theorem kcon_word {D : JD} {h : JH} (hI : JInv D h) {k : Nat} (hk : k < 7) : kcon D k = jcs D 351 ↔ (k = 1 ∨ k = 2) := by
  have inj := fun {i j : Nat} (hi : i < 373 ∧ jenm i = true) (hj : j < 373 ∧ jenm j = true) (e : jcs D i = jcs D j) => kc_ne hI hi hj e
  rcases (show k = 0 ∨ k = 1 ∨ k = 2 ∨ k = 3 ∨ k = 4 ∨ k = 5 ∨ k = 6 by omega) with rfl | rfl | rfl | rfl | rfl | rfl | rfl
  · exact ⟨fun e => absurd (inj ⟨by decide, by decide⟩ ⟨by decide, by decide⟩ e) (by decide), fun e => by omega⟩
  · exact ⟨fun _ => Or.inl rfl, fun _ => rfl⟩
  · exact ⟨fun _ => Or.inr rfl, fun _ => rfl⟩
  · exact ⟨fun e => absurd (inj ⟨by decide, by decide⟩ ⟨by decide, by decide⟩ e) (by decide), fun e => by omega⟩
  · exact ⟨fun e => absurd (inj ⟨by decide, by decide⟩ ⟨by decide, by decide⟩ e) (by decide), fun e => by omega⟩
  · exact ⟨fun e => absurd (inj ⟨by decide, by decide⟩ ⟨by decide, by decide⟩ e) (by decide), fun e => by omega⟩
  · exact ⟨fun e => absurd (inj ⟨by decide, by decide⟩ ⟨by decide, by decide⟩ e) (by decide), fun e => by omega⟩
/-- is: a sign; isWord: a word (the words are reserved ones) -/
theorem k_is {D : JD} {d : Nat} {h : JH} {s a base r : Nat} {src w : Str} {t : Tok} (ht : SgT D h s a base src t) (hk : tkK t < 7) (hw : StR h r w) :
    cX18_is D (d + 3) s r h (pI D h (fun v h' => v = (if tkK t = 6 ∧ tkW t = w then 1 else 0) ∧ h' = h) no) := by
  refine JW.inv fun hI => t_X18_is ⟨ht.1.2.1, fun z => ⟨jbo0, endI fun _ _ => ⟨?_, rfl⟩⟩, fun z => ⟨ht.2.2.2.1.1, useI0 (k_equals (d := d) ht.2.2.2.1 hw) ?_⟩⟩
  · rw [ht.2.2.1, kcon_sign hI hk] at z
    rw [if_neg fun y => z y.1]
  · rw [ht.2.2.1, kcon_sign hI hk] at z
    rintro v h1 _ _ ⟨rfl, rfl⟩
    by_cases e : tkW t = w
    · rw [if_pos e]
      exact ⟨fun y => absurd y (by decide), fun _ => ⟨jbo1, endI fun _ _ => ⟨by rw [if_pos ⟨z, e⟩], rfl⟩⟩⟩
    · rw [if_neg e]
      exact ⟨fun _ => ⟨jbo0, endI fun _ _ => ⟨by rw [if_neg fun y => e y.2], rfl⟩⟩, fun y => absurd rfl y⟩
theorem k_isWord {D : JD} {d : Nat} {h : JH} {s a base r : Nat} {src w : Str} {t : Tok} (ht : SgT D h s a base src t) (hk : tkK t < 7) (hw : StR h r w) :
    cX18_isWord D (d + 3) s r h (pI D h (fun v h' => v = (if (tkK t = 1 ∨ tkK t = 2) ∧ tkW t = w then 1 else 0) ∧ h' = h) no) := by
  refine JW.inv fun hI => t_X18_isWord ⟨ht.1.2.1, fun z => ⟨jbo0, endI fun _ _ => ⟨?_, rfl⟩⟩, fun z => ⟨ht.2.2.2.1.1, useI0 (k_equals (d := d) ht.2.2.2.1 hw) ?_⟩⟩
  · rw [ht.2.2.1, kcon_word hI hk] at z
    rw [if_neg fun y => z y.1]
  · rw [ht.2.2.1, kcon_word hI hk] at z
    rintro v h1 _ _ ⟨rfl, rfl⟩
    by_cases e : tkW t = w
    · rw [if_pos e]
      exact ⟨fun y => absurd y (by decide), fun _ => ⟨jbo1, endI fun _ _ => ⟨by rw [if_pos ⟨z, e⟩], rfl⟩⟩⟩
    · rw [if_neg e]
      exact ⟨fun _ => ⟨jbo0, endI fun _ _ => ⟨by rw [if_neg fun y => e y.2], rfl⟩⟩, fun y => absurd rfl y⟩
/-- the frame of one step of the signs -/
def stN (src : Str) : Nat := 8 + src.length
def stM (src : Str) : Nat := 200 + 8 * src.length
/-- a sign that is taken: the next one is at hand, or it is a bad one -/
theorem k_takes {D : JD} {d : Nat} {h : JH} {s a base r : Nat} {src w : Str} {t : Tok} (ht : SgT D h s a base src t) (hk : tkK t < 7) (hw : StR h r w) (hsm : src.length < 30000) :
    cX18_takes D (d + 11) s r h (pI D h (fun v h' => ((tkK t = 6 ∧ tkW t = w) ∧ v = 1 ∧ tkK (sTok src (tkT t)) ≠ 7 ∧ SgT D h' s a base src (sTok src (tkT t)) ∧ SgF h h' s 8 200) ∨ (¬ (tkK t = 6 ∧ tkW t = w) ∧ v = 0 ∧ h' = h))
      (fun x h' => (tkK t = 6 ∧ tkW t = w) ∧ tkK (sTok src (tkT t)) = 7 ∧ FtR h' x (sStr "42601") (nI (tkF (sTok src (tkT t)) + 1)) ∧ SgF h h' s (stN src) (stM src))) := by
  refine t_X18_takes ⟨ht.1.2.1, useI0 (k_is (d := d + 7) ht hk hw) ?_⟩
  rintro v h1 _ _ ⟨rfl, rfl⟩
  by_cases e : tkK t = 6 ∧ tkW t = w
  · rw [if_pos e]
    refine ⟨fun _ => useV (k_next ht.1 ht.2.2.2.2.2.1 hsm) ?_ ?_, fun y => absurd y (by decide)⟩
    · rintro h2 _ _ ⟨n1, n2, n3⟩
      exact endI fun _ _ => Or.inl ⟨e, rfl, n1, n2, n3⟩
    · rintro x h2 _ _ ⟨n1, n2, n3⟩
      exact fun _ _ => ⟨e, n1, n2, n3⟩
  · rw [if_neg e]
    exact ⟨fun y => absurd rfl y, fun _ => endI fun _ _ => Or.inr ⟨e, rfl, rfl⟩⟩
theorem k_takesWord {D : JD} {d : Nat} {h : JH} {s a base r : Nat} {src w : Str} {t : Tok} (ht : SgT D h s a base src t) (hk : tkK t < 7) (hw : StR h r w) (hsm : src.length < 30000) :
    cX18_takesWord D (d + 11) s r h (pI D h (fun v h' => (((tkK t = 1 ∨ tkK t = 2) ∧ tkW t = w) ∧ v = 1 ∧ tkK (sTok src (tkT t)) ≠ 7 ∧ SgT D h' s a base src (sTok src (tkT t)) ∧ SgF h h' s 8 200) ∨ (¬ ((tkK t = 1 ∨ tkK t = 2) ∧ tkW t = w) ∧ v = 0 ∧ h' = h))
      (fun x h' => ((tkK t = 1 ∨ tkK t = 2) ∧ tkW t = w) ∧ tkK (sTok src (tkT t)) = 7 ∧ FtR h' x (sStr "42601") (nI (tkF (sTok src (tkT t)) + 1)) ∧ SgF h h' s (stN src) (stM src))) := by
  refine t_X18_takesWord ⟨ht.1.2.1, useI0 (k_isWord (d := d + 7) ht hk hw) ?_⟩
  rintro v h1 _ _ ⟨rfl, rfl⟩
  by_cases e : (tkK t = 1 ∨ tkK t = 2) ∧ tkW t = w
  · rw [if_pos e]
    refine ⟨fun _ => useV (k_next ht.1 ht.2.2.2.2.2.1 hsm) ?_ ?_, fun y => absurd y (by decide)⟩
    · rintro h2 _ _ ⟨n1, n2, n3⟩
      exact endI fun _ _ => Or.inl ⟨e, rfl, n1, n2, n3⟩
    · rintro x h2 _ _ ⟨n1, n2, n3⟩
      exact fun _ _ => ⟨e, n1, n2, n3⟩
  · rw [if_neg e]
    exact ⟨fun y => absurd rfl y, fun _ => endI fun _ _ => Or.inr ⟨e, rfl, rfl⟩⟩
/-- a sign that is needed -/
theorem k_need {D : JD} {d : Nat} {h : JH} {s a base r : Nat} {src w : Str} {t : Tok} (ht : SgT D h s a base src t) (hk : tkK t < 7) (hw : StR h r w) (hsm : src.length < 30000) :
    cX18_need D (d + 12) s r h (pV D h (fun h' => (tkK t = 6 ∧ tkW t = w) ∧ tkK (sTok src (tkT t)) ≠ 7 ∧ SgT D h' s a base src (sTok src (tkT t)) ∧ SgF h h' s 8 200)
      (fun x h' => FtR h' x (sStr "42601") (nI ((if tkK t = 6 ∧ tkW t = w then tkF (sTok src (tkT t)) else tkF t) + 1)) ∧ ((tkK t = 6 ∧ tkW t = w) → tkK (sTok src (tkT t)) = 7) ∧ SgF h h' s (stN src) (stM src))) := by
  refine t_X18_need ⟨ht.1.2.1, useI (k_takes (d := d) ht hk hw hsm) ?_ ?_⟩
  · rintro v h1 _ _ (⟨e, rfl, n1, n2, n3⟩ | ⟨e, rfl, rfl⟩)
    · exact ⟨fun _ => endV fun _ _ => ⟨e, n1, n2, n3⟩, fun y => absurd y (by decide)⟩
    · refine ⟨fun y => absurd rfl y, fun _ => useR0 (k_broken (d := d + 4) ht.1 ht.2.1 (by have := ht.2.2.2.2.2.2.2; omega)) ?_⟩
      rintro x h2 _ _ ⟨f1, f2⟩
      exact ⟨f1.1, fun _ _ => ⟨by rw [if_neg e]; exact f1, fun y => absurd y e, f2.1.mono (by unfold stN; omega) (by unfold stM; omega)⟩⟩
  · rintro x h1 _ _ ⟨e, n1, n2, n3⟩
    exact fun _ _ => ⟨by rw [if_pos e]; exact n2, fun _ => n1, n3⟩
theorem k_needWord {D : JD} {d : Nat} {h : JH} {s a base r : Nat} {src w : Str} {t : Tok} (ht : SgT D h s a base src t) (hk : tkK t < 7) (hw : StR h r w) (hsm : src.length < 30000) :
    cX18_needWord D (d + 12) s r h (pV D h (fun h' => ((tkK t = 1 ∨ tkK t = 2) ∧ tkW t = w) ∧ tkK (sTok src (tkT t)) ≠ 7 ∧ SgT D h' s a base src (sTok src (tkT t)) ∧ SgF h h' s 8 200)
      (fun x h' => FtR h' x (sStr "42601") (nI ((if (tkK t = 1 ∨ tkK t = 2) ∧ tkW t = w then tkF (sTok src (tkT t)) else tkF t) + 1)) ∧ (((tkK t = 1 ∨ tkK t = 2) ∧ tkW t = w) → tkK (sTok src (tkT t)) = 7) ∧ SgF h h' s (stN src) (stM src))) := by
  refine t_X18_needWord ⟨ht.1.2.1, useI (k_takesWord (d := d) ht hk hw hsm) ?_ ?_⟩
  · rintro v h1 _ _ (⟨e, rfl, n1, n2, n3⟩ | ⟨e, rfl, rfl⟩)
    · exact ⟨fun _ => endV fun _ _ => ⟨e, n1, n2, n3⟩, fun y => absurd y (by decide)⟩
    · refine ⟨fun y => absurd rfl y, fun _ => useR0 (k_broken (d := d + 4) ht.1 ht.2.1 (by have := ht.2.2.2.2.2.2.2; omega)) ?_⟩
      rintro x h2 _ _ ⟨f1, f2⟩
      exact ⟨f1.1, fun _ _ => ⟨by rw [if_neg e]; exact f1, fun y => absurd y e, f2.1.mono (by unfold stN; omega) (by unfold stM; omega)⟩⟩
  · rintro x h1 _ _ ⟨e, n1, n2, n3⟩
    exact fun _ _ => ⟨by rw [if_pos e]; exact n2, fun _ => n1, n3⟩
