/-! the parser of the component: its state, and the steps of its signs -/
/-- how far the signs are; the end counts one more -/
def lps (t : Tok) : Nat := tkT t + (if tkK t = 0 then 1 else 0)
def lp (σ : PS) : Int := (lps (psT σ) : Nat)
def RX (ρ ρ' : Nat → Nat) (n : Nat) : Prop := ∀ i, i < n → ρ' i = ρ i
theorem RX.rf (ρ : Nat → Nat) (n : Nat) : RX ρ ρ n := fun _ _ => rfl
theorem RX.tr {a b c : Nat → Nat} {n m : Nat} (h1 : RX a b n) (h2 : RX b c m) (h : n ≤ m) : RX a c n := fun i hi => (h2 i (by omega)).trans (h1 i hi)
/-- no two nodes are the same object -/
def RI (ρ : Nat → Nat) (n : Nat) : Prop := ∀ i j, i < n → j < n → ρ i = ρ j → i = j
def PsR (D : JD) (p s a base : Nat) (src : Str) (h : JH) (σ : PS) (ρ : Nat → Nat) : Prop :=
  (jkd h p = 14 ∧ p ≠ 0 ∧ jfr h 79 p = s ∧ jfi h 80 p = nI (psO σ) ∧ jfi h 81 p = nI (psN σ) ∧ jfi h 82 p = nI (psP σ)) ∧ SgT D h s a base src (psT σ) ∧ tkK (psT σ) ≠ 7 ∧ OW h ∧ TreeR D h (psA σ) ρ ∧ Gd src σ ∧ psN σ ≤ 300 ∧ psP σ ≤ 8 ∧ src.length ≤ 8192 ∧ RI ρ (psA σ).length
/-- the parser has gone on from σ to σ' -/
def POk (D : JD) (p s a base : Nat) (src : Str) (h h' : JH) (σ σ' : PS) (ρ ρ' : Nat → Nat) (n m : Int) : Prop :=
  PsR D p s a base src h' σ' ρ' ∧ PFr h h' p s ∧ RX ρ ρ' (psA σ).length ∧ Sp h h' n m ∧ Le σ σ' ∧ lp σ ≤ lp σ'
/-- broken signs -/
def PErG (t : Int) (p s : Nat) (src : Str) (h h' : JH) (σ : PS) (x e : Nat) : Prop :=
  FtR h' x (sStr "42601") (nI e) ∧ PFr h h' p s ∧ Sp h h' (t * (40 * (src.length + 2 - lp σ)) + (2 * src.length + 40 + 60 * t)) (t * (1200 * (src.length + 2 - lp σ)) + (48 * src.length + 1000 + 3000 * t)) ∧ lp σ ≤ src.length + 1
abbrev PErr (p s : Nat) (src : Str) (h h' : JH) (σ : PS) (x e : Nat) : Prop := PErG 1 p s src h h' σ x e
section
variable {D : JD} {p s a base : Nat} {src : Str} {h h' h'' : JH} {σ σ' σ'' : PS} {ρ ρ' ρ'' : Nat → Nat} {n m n' m' : Int} {d : Nat}
theorem PsR.s15 (k : PsR D p s a base src h σ ρ) : jkd h s = 15 ∧ s ≠ 0 := ⟨k.2.1.1.1, k.2.1.1.2.1⟩
theorem PsR.sg (k : PsR D p s a base src h σ ρ) : jfr h 79 p ≠ 0 := by rw [k.1.2.2.1]; exact k.s15.2
theorem PsR.k7 (k : PsR D p s a base src h σ ρ) : tkK (psT σ) < 7 := by
  obtain ⟨q, hq⟩ := k.2.2.2.2.2.1.1
  have := tok_k src q
  rw [← hq] at this
  have := k.2.2.1
  omega
theorem PsR.srcl (k : PsR D p s a base src h σ ρ) : src.length < 30000 := by have := k.2.2.2.2.2.2.2.2.1; omega
theorem POk.rf (k : PsR D p s a base src h σ ρ) : POk D p s a base src h h σ σ ρ ρ 0 0 := ⟨k, PFr.rf _ _ _, RX.rf _ _, Sp.rf _, Le.rf _, Int.le_refl _⟩
theorem POk.tr (h1 : POk D p s a base src h h' σ σ' ρ ρ' n m) (h2 : POk D p s a base src h' h'' σ' σ'' ρ' ρ'' n' m') : POk D p s a base src h h'' σ σ'' ρ ρ'' (n + n') (m + m') :=
  ⟨h2.1, h1.2.1.tr h2.2.1, h1.2.2.1.tr h2.2.2.1 h1.2.2.2.2.1.len, h1.2.2.2.1.tr h2.2.2.2.1, h1.2.2.2.2.1.tr h2.2.2.2.2.1, by have := h1.2.2.2.2.2; have := h2.2.2.2.2.2; omega⟩
theorem POk.mono (h1 : POk D p s a base src h h' σ σ' ρ ρ' n m) (hn : n ≤ n') (hm : m ≤ m') : POk D p s a base src h h' σ σ' ρ ρ' n' m' := ⟨h1.1, h1.2.1, h1.2.2.1, h1.2.2.2.1.mono hn hm, h1.2.2.2.2⟩
theorem PErG.up {x e : Nat} {t : Int} (h2 : PErG t p s src h h' σ x e) (ht : t = 0 ∨ t = 1 := by first | exact Or.inl rfl | exact Or.inr rfl) : PErr p s src h h' σ x e := by
  obtain ⟨a1, a2, a3, a4⟩ := h2
  refine ⟨a1, a2, a3.mono ?_ ?_, a4⟩
  · rcases ht with rfl | rfl <;> omega
  · rcases ht with rfl | rfl <;> omega
theorem POk.err {x e : Nat} {t : Int} (h1 : POk D p s a base src h h' σ σ' ρ ρ' n m) (hn : n ≤ 40 * (lp σ' - lp σ)) (hm : m ≤ 1200 * (lp σ' - lp σ)) (h2 : PErG t p s src h' h'' σ' x e) (ht : t = 0 ∨ t = 1 := by first | exact Or.inl rfl | exact Or.inr rfl) : PErr p s src h h'' σ x e := by
  obtain ⟨a1, a2, a3, a4⟩ := h2.up ht
  have := h1.2.2.2.2.2
  exact ⟨a1, h1.2.1.tr a2, (h1.2.2.2.1.tr a3).mono (by omega) (by omega), by omega⟩
/-- nothing was passed over -/
theorem POk.err0 {x e : Nat} {t : Int} (h1 : POk D p s a base src h h' σ σ' ρ ρ' n m) (hn : n ≤ 0) (hm : m ≤ 0) (el : lp σ' = lp σ) (h2 : PErG t p s src h' h'' σ' x e) : PErG t p s src h h'' σ x e := by
  obtain ⟨a1, a2, a3, a4⟩ := h2
  rw [el] at a3 a4
  exact ⟨a1, h1.2.1.tr a2, (h1.2.2.2.1.tr a3).mono (by omega) (by omega), a4⟩
/-- a little was spent before the fault -/
theorem POk.errC {x e : Nat} (h1 : POk D p s a base src h h' σ σ' ρ ρ' n m) (hn : n ≤ 60) (hm : m ≤ 3000) (el : lp σ' = lp σ) (h2 : PErG 0 p s src h' h'' σ' x e) : PErr p s src h h'' σ x e := by
  obtain ⟨a1, a2, a3, a4⟩ := h2
  rw [el] at a3 a4
  exact ⟨a1, h1.2.1.tr a2, (h1.2.2.2.1.tr a3).mono (by omega) (by omega), a4⟩
theorem sSkip_ge (src : Str) : ∀ n i, i ≤ sSkip src n i
  | 0, i => Nat.le_refl _
  | n + 1, i => by
    unfold sSkip
    split
    · exact Nat.le_trans (Nat.le_succ _) (sSkip_ge src n (i + 1))
    · split
      · refine Nat.le_trans ?_ (sSkip_ge src n _)
        have : ∀ m j, j ≤ sLine src m j := by
          intro m
          induction m with
          | zero => intro j; exact Nat.le_refl _
          | succ m ih =>
            intro j
            unfold sLine
            split
            · exact Nat.le_trans (Nat.le_succ _) (ih (j + 1))
            · exact Nat.le_refl _
        exact this _ _
      · exact Nat.le_refl _
theorem sWordEnd_ge (src : Str) : ∀ n i, i ≤ sWordEnd src n i
  | 0, i => Nat.le_refl _
  | n + 1, i => by
    unfold sWordEnd
    split
    · exact Nat.le_trans (Nat.le_succ _) (sWordEnd_ge src n (i + 1))
    · exact Nat.le_refl _
theorem sNumEnd_ge (src : Str) : ∀ n i, i ≤ sNumEnd src n i
  | 0, i => Nat.le_refl _
  | n + 1, i => by
    unfold sNumEnd
    split
    · exact Nat.le_trans (Nat.le_succ _) (sNumEnd_ge src n (i + 1))
    · exact Nat.le_refl _
theorem sQuoted_ge (src : Str) : ∀ n i acc j t, sQuoted src n i acc = some (j, t) → i < j
  | 0, i, acc, j, t, h => by simp [sQuoted] at h
  | n + 1, i, acc, j, t, h => by
    unfold sQuoted at h
    dsimp only at h
    split at h
    · cases h
    · split at h
      · split at h
        · split at h
          · cases h
          · have := sQuoted_ge src n _ _ j t h; omega
        · cases h; exact Nat.lt_succ_self _
      · split at h
        · cases h
        · have := sQuoted_ge src n _ _ j t h; omega
/-- signs that are not the end go on -/
theorem tok_pos (src : Str) (q : Nat) : q ≤ tkF (sTok src q) ∧ (tkK (sTok src q) ≠ 7 → q + 1 ≤ lps (sTok src q)) := by
  have hs := sSkip_ge src (src.length + 1) q
  unfold sTok
  dsimp only
  generalize sSkip src (src.length + 1) q = i at hs
  split
  · exact ⟨hs, fun _ => by unfold lps tkT tkK; dsimp only; rw [if_pos rfl]; omega⟩
  · rename_i hc0
    have hlt : i < src.length := by
      rcases Nat.lt_or_ge i src.length with z | z
      · exact z
      · exact absurd (lk_neg.mpr z) hc0
    obtain ⟨L, hL⟩ : ∃ L, src.length = L + 1 := ⟨src.length - 1, by omega⟩
    split
    · rename_i hl
      refine ⟨hs, fun _ => ?_⟩
      have : i + 1 ≤ sWordEnd src src.length i := by
        rw [hL]
        unfold sWordEnd
        rw [if_pos (by rw [hl]; rfl)]
        exact sWordEnd_ge src L _
      unfold lps tkT tkK
      dsimp only
      omega
    · split
      · rename_i hd
        refine ⟨hs, fun _ => ?_⟩
        have : i + 1 ≤ sNumEnd src src.length i := by
          rw [hL]
          unfold sNumEnd
          rw [if_pos hd]
          exact sNumEnd_ge src L _
        unfold lps tkT tkK
        dsimp only
        omega
      · split
        · split
          · rename_i j t hq
            have := sQuoted_ge src _ _ _ j t hq
            exact ⟨hs, fun _ => by unfold lps tkT tkK; dsimp only; omega⟩
          · exact ⟨hs, fun h => absurd rfl h⟩
        · split
          · exact ⟨hs, fun _ => by unfold lps tkT tkK; dsimp only; omega⟩
          · split
            · exact ⟨hs, fun _ => by unfold lps tkT tkK; dsimp only; omega⟩
            · exact ⟨hs, fun _ => by unfold lps tkT tkK; dsimp only; omega⟩
theorem PsR.lpl (k : PsR D p s a base src h σ ρ) : lp σ ≤ src.length + 1 := by
  have := k.2.1.1.2.2.2.2.2.2.2.2.2.2.2
  unfold lp lps
  split <;> omega
theorem lp_next (hk : tkK (psT σ) ≠ 0) (hb : tkK (sTok src (tkT (psT σ))) ≠ 7) : lp σ + 1 ≤ lp ((sTok src (tkT (psT σ)), σ.2) : PS) := by
  have := (tok_pos src (tkT (psT σ))).2 hb
  show ((lps (psT σ) : Nat) : Int) + 1 ≤ (lps (sTok src (tkT (psT σ))) : Nat)
  have e : lps (psT σ) = tkT (psT σ) := by unfold lps; rw [if_neg hk]; rfl
  rw [e]
  omega
/-- what a step of the signs gives -/
theorem PsR.step {N M : Nat} (k : PsR D p s a base src h σ ρ) (hI : JInv D h) (hle : jle h h') (hk : tkK (psT σ) ≠ 0) (hb : tkK (sTok src (tkT (psT σ))) ≠ 7) (ht : SgT D h' s a base src (sTok src (tkT (psT σ)))) (hf : SgF h h' s N M) (hN : N ≤ 8) (hM : M ≤ 200) : POk D p s a base src h h' σ (sTok src (tkT (psT σ)), σ.2) ρ ρ (16 * (lp ((sTok src (tkT (psT σ)), σ.2) : PS) - lp σ)) (520 * (lp ((sTok src (tkT (psT σ)), σ.2) : PS) - lp σ)) := by
  have hl := lp_next hk hb
  have pf := hf.pf (p := p) hI k.s15.1
  obtain ⟨⟨k1, k2, k3, k4, k5, k6⟩, k7, k8, k9, k10, k11, k12, k13, k14⟩ := k
  have hs := k7.1.1
  have pl : p ≤ jsz h := hI.lt (by rw [k1]; decide)
  have sp : same h h' p := by
    refine hf.1 p pl ?_
    rintro (z | z | z)
    · rw [z, hs] at k1; cases k1
    · have := hI.ref (F := 90) (k := 100) (r := s) (by decide +kernel) (z ▸ k2)
      rw [← z, k1] at this; cases this
    · have := hI.ref (F := 67) (k := 144) (r := jfr h 90 s) (by decide +kernel) (z ▸ k2)
      rw [← z, k1] at this; cases this
  have ow : OW h' := k9.of (hf.2.2.2.1 k9.tx) hf.2.2.2.2.2.2.2
  refine ⟨⟨⟨by rw [sp.kd]; exact k1, k2, by rw [sp.fr]; exact k3, by rw [sp.fi]; exact k4, by rw [sp.fi]; exact k5, by rw [sp.fi]; exact k6⟩, ht, hb, ow, k10.pf hI k9 k1 hs pf, ⟨⟨_, rfl⟩, k11.2⟩, k12, k13, k14⟩, pf, RX.rf _ _, ?_, ⟨rfl, Nat.le_refl _, fun z => z, Nat.le_refl _, fun z => z, [], (List.append_nil _).symm⟩, by omega⟩
  have s0 := Sp.of (h := h) (h' := h') (n := N) (m := M) (fun q h1 h2 => ?_) hf.2.2.2.2.1 hf.2.2.2.2.2.1 hf.2.2.2.2.2.2.1
  · exact s0.mono (by omega) (by omega)
  · by_cases e : q = s ∨ q = jfr h 90 s ∨ q = jfr h 67 (jfr h 90 s)
    · have kq : jkd h q ≠ 0 := by
        rcases e with e | e | e
        · rw [e, hs]; decide
        · rw [e, hI.ref (F := 90) (k := 100) (by decide +kernel) (by omega)]; decide
        · rw [e, hI.ref (F := 67) (k := 144) (by decide +kernel) (by omega)]; decide
      rcases e with e | e | e
      · rw [wq_kd (h := h') (k := 15) (by rw [hle.2.2 q kq, e, hs]) rfl]; exact Nat.zero_le _
      · refine wq_mono (hle.2.2 q kq) (fun z => ?_) fun z => by rw [← hf.2.2.2.2.2.2.2 269 q (by decide)]; exact z
        rw [e] at z ⊢
        rcases hf.2.2.1 with w | w
        · rw [← w]; exact z
        · omega
      · rw [wq_kd (h := h') (k := 144) (by rw [hle.2.2 q kq, e, hI.ref (F := 67) (k := 144) (by decide +kernel) (by omega)]) rfl]; exact Nat.zero_le _
    · exact Nat.le_of_eq (wq_same (hf.1 q h2 e))
theorem PsR.bad {x e N M : Nat} (k : PsR D p s a base src h σ ρ) (hI : JInv D h) (hle : jle h h') (hx : FtR h' x (sStr "42601") (nI e)) (hf : SgF h h' s N M) (hN : N ≤ 8 + src.length) (hM : M ≤ 200 + 8 * src.length) : PErG 0 p s src h h' σ x e := by
  have pf := hf.pf (p := p) hI k.s15.1
  have hl := k.lpl
  have hs := k.s15.1
  refine ⟨hx, pf, ?_, hl⟩
  have s0 := Sp.of (h := h) (h' := h') (n := N) (m := M) (fun q h1 h2 => ?_) hf.2.2.2.2.1 hf.2.2.2.2.2.1 hf.2.2.2.2.2.2.1
  · exact s0.mono (by omega) (by omega)
  · by_cases e : q = s ∨ q = jfr h 90 s ∨ q = jfr h 67 (jfr h 90 s)
    · have kq : jkd h q ≠ 0 := by
        rcases e with e | e | e
        · rw [e, hs]; decide
        · rw [e, hI.ref (F := 90) (k := 100) (by decide +kernel) (by omega)]; decide
        · rw [e, hI.ref (F := 67) (k := 144) (by decide +kernel) (by omega)]; decide
      rcases e with e | e | e
      · rw [wq_kd (h := h') (k := 15) (by rw [hle.2.2 q kq, e, hs]) rfl]; exact Nat.zero_le _
      · refine wq_mono (hle.2.2 q kq) (fun z => ?_) fun z => by rw [← hf.2.2.2.2.2.2.2 269 q (by decide)]; exact z
        rw [e] at z ⊢
        rcases hf.2.2.1 with w | w
        · rw [← w]; exact z
        · omega
      · rw [wq_kd (h := h') (k := 144) (by rw [hle.2.2 q kq, e, hI.ref (F := 67) (k := 144) (by decide +kernel) (by omega)]) rfl]; exact Nat.zero_le _
    · exact Nat.le_of_eq (wq_same (hf.1 q h2 e))
/-- rates of the signs -/
def PSg (D : JD) (p s a base : Nat) (src : Str) (h h' : JH) (σ σ' : PS) (ρ : Nat → Nat) : Prop := POk D p s a base src h h' σ σ' ρ ρ (16 * (lp σ' - lp σ)) (520 * (lp σ' - lp σ))
theorem PSg.rf (k : PsR D p s a base src h σ ρ) : PSg D p s a base src h h σ σ ρ := (POk.rf k).mono (by omega) (by omega)
theorem w_next (k : PsR D p s a base src h σ ρ) (hk : tkK (psT σ) ≠ 0) (hd : 10 ≤ d) :
    cX18_next D d s h (pV D h (fun h' => ∃ σ', pNext true src σ = .ok ((), σ') ∧ PSg D p s a base src h h' σ σ' ρ ∧ lp σ + 1 ≤ lp σ' ∧ σ'.2 = σ.2) (fun x h' => ∃ e, pNext true src σ = .error e ∧ PErG 0 p s src h h' σ x e)) := by
  refine JW.inv fun hI => JW.up (n := 10) (fun d => useV (k_next (d := d) k.2.1.1 k.2.1.2.2.2.2.2.1 k.srcl) ?_ ?_) hd
  · rintro h1 _ hle ⟨n1, n2, n3⟩
    refine ⟨(sTok src (tkT (psT σ)), σ.2), ?_, k.step hI hle hk n1 n2 n3 (Nat.le_refl _) (Nat.le_refl _), lp_next hk n1, rfl⟩
    unfold pNext
    dsimp only
    rw [if_neg (by simp [n1])]
  · rintro x h1 _ hle ⟨n1, n2, n3⟩
    refine ⟨tkF (sTok src (tkT (psT σ))) + 1, ?_, k.bad hI hle n2 n3 (Nat.le_refl _) (Nat.le_refl _)⟩
    unfold pNext
    dsimp only
    rw [if_pos (by rw [n1]; rfl)]
end
