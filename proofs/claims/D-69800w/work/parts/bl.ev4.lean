/-! the component: the own cell is written; IS NULL, NOT, minus -/
section
variable {D : JD} {h h' h'' hm h0 h1 h2 h3 hb : JH} {ρ : Nat → Nat} {A : List Nod} {E Ec : TEnv} {d sc r x i n f c q lo hi t : Nat} {M : Nat → Prop} {pv : List Val} {grp : List TRow} {R : TRow} {G : TRow → JH → Prop} {wi : Bool} {z : Ex Val} {w : Val}
/-- the post of at -/
def EQ (D : JD) (A : List Nod) (E : TEnv) (ρ : Nat → Nat) (sc : Nat) (pv : List Val) (i : Nat) (R : TRow) (hb h : JH) (z : Ex Val) : JO → JH → Prop := pR D hb 8 (EvOk D A E ρ sc pv i R h z) (EvEr D A ρ sc i h z)
/-- while the node i is worked out -/
def EvS (D : JD) (A : List Nod) (E Ec : TEnv) (ρ : Nat → Nat) (sc : Nat) (pv : List Val) (G : TRow → JH → Prop) (R : TRow) (i : Nat) (h h1 : JH) : Prop := EvF D sc (EM h A ρ (ndL (nat_ A i)) (i + 1)) h h1 ∧ EvI D A E Ec ρ sc pv G R h1
theorem EvS.rf (S : EvI D A E Ec ρ sc pv G R h) : EvS D A E Ec ρ sc pv G R i h h := ⟨EvF.rf, S⟩
theorem EvS.e8 (S : EvS D A E Ec ρ sc pv G R i h h1) (q : Nat) : jfr h1 108 q = jfr h 108 q := S.1.2.2.2.2.1 108 q (by decide) (by decide)
theorem fin_val (C : EvC A E Ec ρ pv grp) (S : EvS D A E Ec ρ sc pv G R i h h1) (hI : JInv D h1) (hI2 : JInv D h2) (il : i < A.length) (o : ndO (nat_ A i) ≠ 0) (hle : jle h1 h2) (hc : Cel D h2 (jfr h1 108 (ρ i)) w) (hf : CelF h1 h2 (jfr h1 108 (ρ i))) (hz : z = .ok w) : EQ D A E ρ sc pv i R hb h z (.inl (some (vR 8 (jfr h1 108 (ρ i))))) h2 := by
  obtain ⟨b, en⟩ := S.2.own hI hI2 hf hc.1 hle il o (C.1 i il).1
  rw [S.1.em'] at b
  exact endR fun _ _ _ => ⟨w, hz, hc, Or.inl (S.e8 _), S.1.tr b, en⟩
theorem fin_err (S : EvS D A E Ec ρ sc pv G R i h h1) {y : Nat} {u : Str} (k : Flt h1 h2 y u) (hz : z = .error u) : EQ D A E ρ sc pv i R hb h z (.inr y) h2 := endX fun _ _ => ⟨u, h1, hz, S.1, k⟩
theorem fin_none (C : EvC A E Ec ρ pv grp) (S : EvS D A E Ec ρ sc pv G R i h h1) (il : i < A.length) (o : ndO (nat_ A i) ≠ 0) (hz : z = .ok vNull) (hd : 1 ≤ d) : cX14_none D d (jfr h1 108 (ρ i)) h1 (pR D h1 8 (fun v h2 => EQ D A E ρ sc pv i R hb h z (.inl (some (vR 8 v))) h2) (jth (EQ D A E ρ sc pv i R hb h z))) := by
  refine JW.inv fun hI => JW.up (n := 1) (fun y => useR0 (k_cNone (d := y) (S.2.1 i il).2.2.1) ?_) hd
  rintro v h2 hI2 hle ⟨rfl, c1, c2⟩
  exact fin_val C S hI hI2 il o hle c1 c2 hz
theorem fin_truth {x : Int32} (C : EvC A E Ec ρ pv grp) (S : EvS D A E Ec ρ sc pv G R i h h1) (il : i < A.length) (o : ndO (nat_ A i) ≠ 0) (hz : z = .ok (vBool (x ≠ 0))) (hd : 1 ≤ d) : cX14_truth D d (jfr h1 108 (ρ i)) x h1 (pR D h1 8 (fun v h2 => EQ D A E ρ sc pv i R hb h z (.inl (some (vR 8 v))) h2) (jth (EQ D A E ρ sc pv i R hb h z))) := by
  refine JW.inv fun hI => JW.up (n := 1) (fun y => useR0 (k_cTruth (d := y) (S.2.1 i il).2.2.1) ?_) hd
  rintro v h2 hI2 hle ⟨rfl, c1, c2⟩
  exact fin_val C S hI hI2 il o hle c1 c2 hz
theorem fin_number {m : Int64} (C : EvC A E Ec ρ pv grp) (S : EvS D A E Ec ρ sc pv G R i h h1) (il : i < A.length) (o : ndO (nat_ A i) ≠ 0) (hz : z = xNum m) (hd : 8 ≤ d) : cX14_number D d (jfr h1 108 (ρ i)) m h1 (pR D h1 8 (fun v h2 => EQ D A E ρ sc pv i R hb h z (.inl (some (vR 8 v))) h2) (jth (EQ D A E ρ sc pv i R hb h z))) := by
  refine JW.inv fun hI => JW.up (n := 8) (fun y => useR (k_cNumber (d := y) (S.2.1 i il).2.2.1) ?_ ?_) hd
  · rintro v h2 hI2 hle ⟨rfl, c0, c1, c2⟩
    exact fin_val C S hI hI2 il o hle c1 c2 (hz.trans c0)
  · rintro y h2 hI2 hle ⟨c0, c1, c2⟩
    exact fin_err S ⟨c1, c2⟩ (hz.trans c0)
/-- a cell that came out of the part p -/
def RsC (h : JH) (ρ : Nat → Nat) (p v : Nat) : Prop := v = jfr h 108 (ρ p) ∨ jkd h v = 96 ∨ jkd h v = 97 ∨ jkd h v = 102
theorem RsC.ne {p v : Nat} (k : RsC h ρ p v) (S : EvI D A E Ec ρ sc pv G R h) (hI : JInv D h) (ri : RI ρ A.length) (pl : p < A.length) (il : i < A.length) (ne : p ≠ i) : v ≠ jfr h 108 (ρ i) := by
  intro e
  have ni := (S.1 i il).2.2.1
  have k98 : jkd h (jfr h 108 (ρ i)) = 98 := hI.ref (F := 108) (by decide +kernel) ni.1
  rcases k with k | k
  · exact ne (ri p i pl il (S.2.1 108 _ _ (Or.inr (Or.inl rfl)) (k.symm.trans e) (by rw [← k, e]; exact ni.1)))
  · rw [e] at k; omega
theorem RsC.keep {p v : Nat} (k : RsC h ρ p v) (S : EvI D A E Ec ρ sc pv G R h) (hI : JInv D h) (ri : RI ρ A.length) (pl : p < A.length) (hc : Cel D h v w) (a : EvF D sc (EM h A ρ lo hi) h h') (ho : hi ≤ p ∨ p < lo) : Cel D h' v w ∧ RsC h' ρ p v := by
  have hn : ¬ EM h A ρ lo hi v := by
    rcases k with k | k
    · rw [k]; exact EM.out S.1 S.2.1 hI ri pl (Or.inr ho)
    · intro z
      have := (S.1.emW hI z).2
      omega
  obtain ⟨t1, t2⟩ := a.keep hI S.2.1 (fun c hc => (S.1.emW hI hc).1) S.2.2.1.2.1.1 hc.1 hn
  refine ⟨hc.of t1 t2, ?_⟩
  unfold RsC
  rw [t1.kd, a.2.2.2.2.1 108 _ (by decide) (by decide)]
  exact k
/-- what one part gives, told against the node's start -/
def EvN (D : JD) (A : List Nod) (E Ec : TEnv) (ρ : Nat → Nat) (sc : Nat) (pv : List Val) (G : TRow → JH → Prop) (R : TRow) (i f : Nat) (h h1 : JH) (p t : Nat) (x : Ex Val) (v : Nat) (h2 : JH) : Prop :=
  ∃ w, x = .ok w ∧ Cel D h2 v w ∧ VT t w ∧ RsC h2 ρ p v ∧ EvS D A E Ec ρ sc pv G R i h h2 ∧ EvF D sc (EM h1 A ρ (ndL (nat_ A p)) (p + 1)) h1 h2 ∧ (∀ j, j < A.length → PlT A E h1 ρ f j → PlT A E h2 ρ f j) ∧ JInv D h1
theorem w_evNext {p : Nat} (C : EvC A E Ec ρ pv grp) (hG : EvG D A ρ sc G) (IH : EVX D A E Ec ρ sc pv grp G f) (hi : i < f + 1) (il : i < A.length) (hB : HB A (n + 1) i) (hp : p ∈ ndP (nat_ A i)) (S0 : EvI D A E Ec ρ sc pv G R h) (hI0 : JInv D h) (S : EvS D A E Ec ρ sc pv G R i h h1) (pl : PlT A E h1 ρ f p) (ht : tTree A Ec f wi p = .ok t) (hd : 2 * n + 20 ≤ d) :
    v55_at D d (ρ p) sc h1 (pR D h1 8 (EvN D A E Ec ρ sc pv G R i f h h1 p t (eTree A E pv grp f R p)) (fun y h2 => ∃ c hm, eTree A E pv grp f R p = .error c ∧ EvF D sc (EM h A ρ (ndL (nat_ A i)) (i + 1)) h hm ∧ Flt hm h2 y c)) := by
  have til := (Til.lt (C.1 i il).2.1).2 p hp
  refine useAt (w_evPart C hG IH hi il hB hp S.2 pl ht hd) ?_ ?_
  · rintro v h2 hI1 hI2 ⟨w, w1, w2, w3, w4, w5, w6, w7⟩
    have e8 : jfr h2 108 (ρ p) = jfr h1 108 (ρ p) := w5.2.2.2.2.1 108 _ (by decide) (by decide)
    have b : EvF D sc (EM h1 A ρ (ndL (nat_ A i)) (i + 1)) h1 h2 := w5.up S.2 hI1 (by omega) (by omega)
    rw [S.1.em'] at b
    exact ⟨w, w1, w2, w3, by unfold RsC; rw [e8]; exact w4, ⟨S.1.tr b, w6⟩, w5, fun j => w7 f j, hI1⟩
  · rintro y h2 hI1 hI2 ⟨c, hm, c1, c2, c3⟩
    rw [S.1.em'] at c2
    exact ⟨c, hm, c1, S.1.tr c2, c3⟩
theorem ev_miss (C : EvC A E Ec ρ pv grp) (hG : EvG D A ρ sc G) (IH : EVX D A E Ec ρ sc pv grp G f) (hi : i < f + 1) (il : i < A.length) (hB : HB A (n + 1) i) (o : ndO (nat_ A i) = 8) (S : EvI D A E Ec ρ sc pv G R h) (pl : PlT A E h ρ (f + 1) i) (ht : tTree A Ec (f + 1) wi i = .ok t) (hd : 2 * n + 21 ≤ d) :
    cX34_at D d (ρ i) sc h (EQ D A E ρ sc pv i R h h (eTree A E pv grp (f + 1) R i)) := by
  obtain ⟨e, rfl, he⟩ := dsucc hd
  have nr := S.1 i il
  have sh := (C.1 i il).2.2.1
  obtain ⟨p, ep⟩ := sh.par1 (Or.inl o)
  have f8 := nr.2.2.2.2.2.2.2.2.2.2.2.1 o
  have np : npt (nat_ A i) 0 = p := by unfold npt; rw [ep]; rfl
  have pm : p ∈ ndP (nat_ A i) := by rw [ep]; exact List.mem_cons_self
  have til := (Til.lt (C.1 i il).2.1).2 p pm
  rw [np] at f8
  rw [tTree_one ep (by omega)] at ht
  obtain ⟨u, hu, ht⟩ := bnd ht
  have k01 : ndK (nat_ A i) = 0 ∨ ndK (nat_ A i) = 1 := by
    rcases sh with h | h | h | h | h | h | h | h | h | h | h | h | h
    all_goals first | (have := h.2.1; omega) | (exfalso; have := h.1; omega)
  have ee : eTree A E pv grp (f + 1) R i = (eTree A E pv grp f R p >>= fun x => .ok (vBool ((x.1 == 0) != (ndK (nat_ A i) == 1)))) := by rw [eT_8 o]; unfold evK; rw [ep]; rfl
  refine JW.inv fun hI => t_X34_at ⟨nr.1, ?_⟩
  rw [f8.1]
  refine ⟨(S.1 p (by omega)).1, useAt (w_evNext C hG IH hi il hB pm S hI (EvS.rf S) (pl.2 p pm) hu (by omega)) ?_ ?_⟩
  · rintro v h1 _ hI1 ⟨w, w1, w2, w3, w4, w5, -⟩
    have g8 := (w5.2.1 i il).2.2.2.2.2.2.2.2.2.2.2.1 o
    rw [← w5.e8]
    refine ⟨w2.1.1, JW.up (n := 1) (fun y => useI0 (k_cEmpty (d := y) w2) ?_) (by omega)⟩
    rintro v2 h2 hI2 hle ⟨rfl, he2⟩
    have he2 := he2.symm
    subst he2
    refine ⟨nr.1, ?_⟩
    rw [g8.2.1]
    have fin : ∀ x : Int32, (decide (x ≠ 0) = ((w.1 == 0) != (ndK (nat_ A i) == 1))) → W_X34_at_27 D e (EQ D A E ρ sc pv i R h h (eTree A E pv grp (f + 1) R i)) (jfr h1 108 (ρ i)) x h1 := fun x hx =>
      ⟨(w5.2.1 i il).2.2.1.1, fin_truth C w5 il (by omega) (by rw [ee, w1, hx]; rfl) (by omega)⟩
    refine ⟨fun z => fin 0 ?_, fun z => fin 1 ?_⟩
    · by_cases y : w.1 = 0 <;> rcases k01 with k | k <;> rw [k] at z ⊢ <;> simp only [y, if_true, if_false, beq_iff_eq] at z ⊢ <;> first | rfl | (exfalso; revert z; decide) | simp [y]
    · by_cases y : w.1 = 0 <;> rcases k01 with k | k <;> rw [k] at z ⊢ <;> simp only [y, if_true, if_false, beq_iff_eq] at z ⊢ <;> first | rfl | (exfalso; revert z; decide) | simp [y]
  · rintro y h1 _ hI1 ⟨c, hm, c1, c2, c3⟩
    exact endX fun _ _ => ⟨c, hm, by rw [ee, c1]; rfl, c2, c3⟩
end
