/-! the parser of the component: signs read ahead, and back again -/
theorem sLine_ge (src : Str) : ∀ m j, j ≤ sLine src m j
  | 0, j => Nat.le_refl _
  | m + 1, j => by
    unfold sLine
    split
    · exact Nat.le_trans (Nat.le_succ _) (sLine_ge src m (j + 1))
    · exact Nat.le_refl _
theorem skip_stop (src : Str) : ∀ n i, src.length + 1 ≤ n + i → sSpace (sLk src (sSkip src n i)) = false ∧ (sLk src (sSkip src n i) == 45 && sLk src (sSkip src n i + 1) == 45) = false
  | 0, i, h => by
    have e : sLk src i = -1 := lk_out (by omega)
    show sSpace (sLk src i) = false ∧ (sLk src i == 45 && sLk src (i + 1) == 45) = false
    rw [e]
    exact ⟨by decide, by rw [show ((-1 : Int32) == 45) = false by decide]; rfl⟩
  | n + 1, i, h => by
    by_cases h1 : sSpace (sLk src i) = true
    · have e : sSkip src (n + 1) i = sSkip src n (i + 1) := by
        conv => lhs; unfold sSkip
        rw [if_pos h1]
      rw [e]; exact skip_stop src n (i + 1) (by omega)
    · by_cases h2 : (sLk src i == 45 && sLk src (i + 1) == 45) = true
      · have e : sSkip src (n + 1) i = sSkip src n (sLine src src.length i) := by
          conv => lhs; unfold sSkip
          rw [if_neg h1, if_pos h2]
        have e45 : sLk src i = 45 := by
          rw [Bool.and_eq_true] at h2
          exact eq_of_beq h2.1
        have il : i < src.length := by
          rcases Nat.lt_or_ge i src.length with z | z
          · exact z
          · rw [lk_out z] at e45; exact absurd e45 (by decide)
        have : i + 1 ≤ sLine src src.length i := by
          obtain ⟨L, hL⟩ : ∃ L, src.length = L + 1 := ⟨src.length - 1, by omega⟩
          rw [hL]
          conv => rhs; unfold sLine
          rw [if_pos (by rw [e45, hL]; simp; omega)]
          exact sLine_ge src L _
        rw [e]; exact skip_stop src n _ (by omega)
      · have e : sSkip src (n + 1) i = i := by
          conv => lhs; unfold sSkip
          rw [if_neg h1, if_neg h2]
        rw [e]; exact ⟨Bool.eq_false_iff.mpr h1, Bool.eq_false_iff.mpr h2⟩
theorem tok_from (src : Str) (q : Nat) : tkF (sTok src q) = sSkip src (src.length + 1) q := by
  unfold sTok
  dsimp only
  repeat' first | rfl | split
theorem tok_cong {src : Str} {a b : Nat} (e : sSkip src (src.length + 1) a = sSkip src (src.length + 1) b) : sTok src a = sTok src b := by
  unfold sTok
  rw [e]
theorem tok_again (src : Str) (q : Nat) : sTok src (tkF (sTok src q)) = sTok src q := by
  have e : sSkip src (src.length + 1) (tkF (sTok src q)) = sSkip src (src.length + 1) q := by
    rw [tok_from]
    have h := skip_stop src (src.length + 1) q (by omega)
    generalize sSkip src (src.length + 1) q = j at h
    unfold sSkip
    rw [if_neg (by rw [h.1]; simp), if_neg (by rw [h.2]; simp)]
  exact tok_cong e
section
variable {D : JD} {p s a base : Nat} {src : Str} {h h' h'' h0 h2 : JH} {σ σ' σ'' σ0 σ2 : PS} {ρ ρ' ρ'' ρ0 : Nat → Nat} {n m n' m' n1 m1 : Int} {d c r w arr N M : Nat}
theorem SgF.sp2 (hI : JInv D h) (hs : jkd h s = 15) (hle : jle h h') (hf : SgF h h' s N M) : Sp h h' (2 * N) (M + 40 * N) := by
  refine Sp.of (n := N) (m := M) (fun q h1 h2 => ?_) hf.2.2.2.2.1 hf.2.2.2.2.2.1 hf.2.2.2.2.2.2.1
  by_cases e : q = s ∨ q = jfr h 90 s ∨ q = jfr h 67 (jfr h 90 s)
  · have kq : jkd h q ≠ 0 := by
      rcases e with e | e | e
      · rw [e, hs]; decide
      · rw [e, hI.ref (F := 90) (k := 100) (by decide +kernel) (by omega)]; decide
      · rw [e, hI.ref (F := 67) (k := 144) (by decide +kernel) (by omega)]; decide
    rcases e with e | e | e
    · rw [wq_kd (h := h') (k := 15) (by rw [hle.2.2 q kq, e, hs]) rfl]; exact Nat.zero_le _
    · refine wq_mono (hle.2.2 q kq) (fun z => ?_) fun z => by rw [← hf.2.2.2.2.2.2.2 269 q (by decide)]; exact z
      rw [e] at z ⊢
      rcases hf.2.2.1 with w | w
      · rw [← w]; exact z
      · omega
    · rw [wq_kd (h := h') (k := 144) (by rw [hle.2.2 q kq, e, hI.ref (F := 67) (k := 144) (by decide +kernel) (by omega)]) rfl]; exact Nat.zero_le _
  · exact Nat.le_of_eq (wq_same (hf.1 q h2 e))
theorem PsR.stepN (k : PsR D p s a base src h σ ρ) (hI : JInv D h) (hle : jle h h') (hk : tkK (psT σ) ≠ 0) (hb : tkK (sTok src (tkT (psT σ))) ≠ 7) (ht : SgT D h' s a base src (sTok src (tkT (psT σ)))) (hf : SgF h h' s N M) (hN : N ≤ 8) (hM : M ≤ 200) : POk D p s a base src h h' σ (sTok src (tkT (psT σ)), σ.2) ρ ρ (2 * N) (M + 40 * N) := by
  have P := k.step hI hle hk hb ht hf hN hM
  exact ⟨P.1, P.2.1, P.2.2.1, hf.sp2 hI k.s15.1 hle, P.2.2.2.2⟩
theorem w_nextN (k : PsR D p s a base src h σ ρ) (hk : tkK (psT σ) ≠ 0) (hd : 10 ≤ d) :
    cX18_next D d s h (pV D h (fun h' => ∃ σ', pNext true src σ = .ok ((), σ') ∧ POk D p s a base src h h' σ σ' ρ ρ 12 400 ∧ (tkK (psT σ') = 6 → POk D p s a base src h h' σ σ' ρ ρ 0 0) ∧ lp σ + 1 ≤ lp σ' ∧ σ'.2 = σ.2) (fun x h' => ∃ e, pNext true src σ = .error e ∧ PErG 0 p s src h h' σ x e)) := by
  refine JW.inv fun hI => JW.up (n := 10) (fun z => useV (k_nextT (d := z) k.2.1.1 k.2.1.2.2.2.2.2.1 k.srcl) ?_ ?_) hd
  · rintro h1 _ hle ⟨n1, n2, n3⟩
    have a1 := nxN_le (sTok src (tkT (psT σ)))
    have a2 := nxM_le (sTok src (tkT (psT σ)))
    have P := k.stepN hI hle hk n1 n2 n3 (by omega) (by omega)
    refine ⟨(sTok src (tkT (psT σ)), σ.2), next_eq n1, P.mono (by omega) (by omega), fun z => ?_, lp_next hk n1, rfl⟩
    have z : tkK (sTok src (tkT (psT σ))) = 6 := z
    have b1 : nxN (sTok src (tkT (psT σ))) = 0 := by unfold nxN; rw [z]; rfl
    have b2 : nxM (sTok src (tkT (psT σ))) = 0 := by unfold nxM; rw [z]; rfl
    exact P.mono (by omega) (by omega)
  · rintro x h1 _ hle ⟨n1, n2, n3⟩
    exact ⟨tkF (sTok src (tkT (psT σ))) + 1, next_er n1, k.bad hI hle n2 n3 (Nat.le_refl _) (Nat.le_refl _)⟩
/-- taking a sign, at a fixed cost -/
def TkN (D : JD) (p s a base : Nat) (src : Str) (h : JH) (σ : PS) (ρ : Nat → Nat) (w : String) (v : Int32) (h' : JH) : Prop :=
  ∃ b σ', pTake true src w σ = .ok (b, σ') ∧ v = (if b = true then 1 else 0) ∧ POk D p s a base src h h' σ σ' ρ ρ 16 520 ∧ σ'.2 = σ.2 ∧ (b = true → pIs σ w = true ∧ pNext true src σ = .ok ((), σ') ∧ lp σ + 1 ≤ lp σ') ∧ (b = false → pIs σ w = false ∧ h' = h ∧ σ' = σ)
theorem w_takesN (k : PsR D p s a base src h σ ρ) (w : String) {j : Nat} (hc : cw j w false = true) (hd : 11 ≤ d) :
    cX18_takes D d s (jcs D j) h (pI D h (TkN D p s a base src h σ ρ w) (fun x h' => ∃ e, pTake true src w σ = .error e ∧ PErG 0 p s src h h' σ x e)) := by
  refine JW.inv fun hI => ?_
  have e0 := is_sign (cw_w hI hc).2 k.2.2.2.2.2.1.1
  refine JW.up (n := 11) (fun z => useI (k_takes (d := z) k.2.1 k.k7 (cw_w hI hc).1 k.srcl) ?_ ?_) hd
  · rintro v h1 _ hle hv
    rcases hv with ⟨e, rfl, n1, n2, n3⟩ | ⟨e, rfl, rfl⟩
    · have e := e0.mp e
      refine ⟨true, (sTok src (tkT (psT σ)), σ.2), ?_, rfl, (k.stepN hI hle (is_k e) n1 n2 n3 (Nat.le_refl _) (Nat.le_refl _)).mono (by omega) (by omega), rfl, fun _ => ⟨e, next_eq n1, lp_next (is_k e) n1⟩, fun z => by cases z⟩
      unfold pTake
      rw [if_pos e, next_eq n1]; rfl
    · have e : ¬ pIs σ w = true := fun z => e (e0.mpr z)
      refine ⟨false, σ, ?_, rfl, (POk.rf k).mono (by omega) (by omega), rfl, fun z => (by cases z), fun _ => ⟨Bool.eq_false_iff.mpr e, rfl, rfl⟩⟩
      unfold pTake
      rw [if_neg e]
  · rintro x h1 _ hle ⟨e, n1, n2, n3⟩
    refine ⟨tkF (sTok src (tkT (psT σ))) + 1, ?_, k.bad hI hle n2 n3 (Nat.le_refl _) (Nat.le_refl _)⟩
    unfold pTake
    rw [if_pos (e0.mp e), next_er n1]; rfl
/-- the signs stand at any sign of the text -/
theorem PsR.jump {q : Nat} (k : PsR D p s a base src h σ ρ) (hI : JInv D h) (hb : tkK (sTok src q) ≠ 7) (ht : SgT D h' s a base src (sTok src q)) (hf : SgF h h' s N M) : PsR D p s a base src h' (sTok src q, σ.2) ρ ∧ PFr h h' p s := by
  have pf := hf.pf (p := p) hI k.s15.1
  obtain ⟨⟨k1, k2, k3, k4, k5, k6⟩, k7, k8, k9, k10, k11, k12, k13, k14⟩ := k
  have hs := k7.1.1
  have pl : p ≤ jsz h := hI.lt (by rw [k1]; decide)
  have sp : same h h' p := by
    refine hf.1 p pl ?_
    rintro (z | z | z)
    · rw [z, hs] at k1; cases k1
    · have := hI.ref (F := 90) (k := 100) (r := s) (by decide +kernel) (z ▸ k2)
      rw [← z, k1] at this; cases this
    · have := hI.ref (F := 67) (k := 144) (r := jfr h 90 s) (by decide +kernel) (z ▸ k2)
      rw [← z, k1] at this; cases this
  have ow : OW h' := k9.of (hf.2.2.2.1 k9.tx) hf.2.2.2.2.2.2.2
  exact ⟨⟨⟨by rw [sp.kd]; exact k1, k2, by rw [sp.fr]; exact k3, by rw [sp.fi]; exact k4, by rw [sp.fi]; exact k5, by rw [sp.fi]; exact k6⟩, ht, hb, ow, k10.pf hI k9 k1 hs pf, ⟨⟨_, rfl⟩, k11.2⟩, k12, k13, k14⟩, pf⟩
/-- back to the sign at which reading ahead began -/
theorem w_back (k : POk D p s a base src h0 h σ0 σ ρ0 ρ n m) (l : POk D p s a base src h h2 σ σ2 ρ ρ n1 m1) (hI2 : JInv D h2) (e : σ2.2 = σ.2) {x : Int32} (hx : x = nI (base + tkF (psT σ))) (hd : 10 ≤ d) :
    cX18_next D d s (wfi h2 85 s x) (pV D (wfi h2 85 s x) (fun h' => POk D p s a base src h0 h' σ0 σ ρ0 ρ (n + n1 + 12) (m + m1 + 400) ∧ PFr h h' p s) no) := by
  subst hx
  obtain ⟨q, hq⟩ := k.1.2.2.2.2.2.1.1
  have again : sTok src (tkF (psT σ)) = psT σ := by rw [hq]; exact tok_again src q
  have f0 : SgF h2 (wfi h2 85 s (nI (base + tkF (psT σ)))) s 0 0 := SgF.fi _
  have b3 : SgB (wfi h2 85 s (nI (base + tkF (psT σ)))) s a base src (tkF (psT σ)) := l.1.2.1.1.at k.1.2.1.2.2.2.2.2.2.2
  have ne : jfr h2 90 s ≠ s := fun z => by
    have y := (l.1.kinds hI2).2.2.2.1
    rw [z, l.1.s15.1] at y; cases y
  have c3 : CelW D (wfi h2 85 s (nI (base + tkF (psT σ)))) (jfr h2 90 s) := l.1.2.1.2.2.2.2.2.1.of (same_wfi ne) fun z => same_wfi fun y => by
    have y2 := (l.1.kinds hI2).2.2.2.2.1 z
    rw [y, l.1.s15.1] at y2; cases y2
  refine JW.inv fun hI3 => JW.up (n := 10) (fun z => useV (k_nextT (d := z) b3 c3 k.1.srcl) ?_ ?_) hd
  · rintro h4 hI4 hle ⟨n1', n2, n3⟩
    have j := l.1.jump hI2 n1' n2 (f0.tr n3)
    have a1 := nxN_le (sTok src (tkF (psT σ)))
    have a2 := nxM_le (sTok src (tkF (psT σ)))
    rw [again, e] at j
    have sp := (((k.2.2.2.1.tr l.2.2.2.1).tr (Sp.fi (h := h2) (F := 85) (r := s) (v := nI (base + tkF (psT σ))))).tr (n3.sp2 hI3 b3.1 hle))
    exact ⟨⟨j.1, (k.2.1.tr l.2.1).tr j.2, k.2.2.1, sp.mono (by omega) (by omega), k.2.2.2.2⟩, l.2.1.tr j.2⟩
  · rintro y h4 _ _ ⟨z, _⟩
    rw [again] at z
    exact absurd z k.1.2.2.1
theorem POk.er2 {x e : Nat} {t : Int} (h1 : POk D p s a base src h h' σ σ' ρ ρ' n m) (hn : n ≤ 80 * (lp σ' - lp σ) + 60) (hm : m ≤ 2400 * (lp σ' - lp σ) + 3000) (h2 : PErG t p s src h' h'' σ' x e) (ht : t = 0 ∨ t = 1 := by first | exact Or.inl rfl | exact Or.inr rfl) : PEr2 p s src h h'' σ x e := by
  obtain ⟨a1, a2, a3, a4⟩ := h2.up ht
  have := h1.2.2.2.2.2
  exact ⟨a1, h1.2.1.tr a2, (h1.2.2.2.1.tr a3).mono (by omega) (by omega), by omega⟩
end
