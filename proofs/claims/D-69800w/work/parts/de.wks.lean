/-! the component: while INSERT, UPDATE, DELETE are worked out -/
section
variable {D : JD} {h h' h'' h0 h1 h2 : JH} {ρ : Nat → Nat} {A : List Nod} {E : TEnv} {K K' : Nat → Bool} {q c t u r B e sc b i k v n d : Nat} {M : Nat → Prop} {tb : Tab} {T T' S : List Tab} {pv : List Val} {ra rb : Int}
/-- kinds that change while a statement is worked out -/
def wkS (k : Nat) : Bool := Nat.beq k 71 || (wkd k && (!(Nat.beq k 144) && !(Nat.beq k 12)))
theorem wkS_ev : ∀ k, evKd k = true → wkS k = true := fun k e => by
  unfold evKd at e
  simp only [Bool.or_eq_true, Nat.beq_eq] at e
  rcases e with e | e | e <;> rw [e] <;> rfl
/-- a new array of numbers or truths is written -/
theorem SF.nai {x : Int32} (a : SF D h h1) (hI : JInv D h) (hb : jsz h < b) (kb : jkd h1 b = 71) : SF D h (wai h1 b i x) := by
  obtain ⟨a1, a2, a3, a4, a5, a6, a7, a8, a9⟩ := a
  have nb : ∀ q, jkd h q ≠ 0 → q ≠ b := fun q hq z => by
    have := hI.lt hq
    omega
  have sm : ∀ q, q ≠ b → same h1 (wai h1 b i x) q := fun q hq => same_wai hq
  have st : ∀ q w, StR h1 q w → StR (wai h1 b i x) q w := fun q w k => by
    have z1 := k.2.1
    have z2 := k.2.2.2.2.1
    exact k.of (sm q fun z => by rw [z] at z1; omega) (sm _ fun z => by rw [z] at z2; omega)
  have cw : ∀ c, CelW D h1 c → CelW D (wai h1 b i x) c := fun c k => by
    have kc := k.kd
    refine k.of (sm c fun z => by rw [z] at kc; omega) fun h0 => sm _ fun z => ?_
    have := (k.2.2.2.2.resolve_left h0).1
    rw [z] at this; omega
  have cs : ∀ c, CelW D h c → same h h1 c ∧ (jfr h 67 c ≠ 0 → same h h1 (jfr h 67 c)) → same h (wai h1 b i x) c ∧ (jfr h 67 c ≠ 0 → same h (wai h1 b i x) (jfr h 67 c)) := fun c k s => by
    have kc := k.kd
    refine ⟨s.1.tr (sm c (nb c (by omega))), fun h0 => (s.2 h0).tr (sm _ (nb _ ?_))⟩
    have := (k.2.2.2.2.resolve_left h0).1
    omega
  refine ⟨a1, fun q hq hw => ?_, a3, fun q hq k => cs _ k (a4 q hq k), fun c c1 c2 k => cs c k (a5 c c1 c2 k), fun c hc k => cw c (a6 c hc k), fun q w k => st q w (a7 q w k), fun o => a8 o, a9⟩
  obtain ⟨x1, x2, x3, x4, x5⟩ := a2 q hq hw
  have s := sm q (nb q hq)
  exact ⟨x1, x2, fun g i => ⟨(s.ai i).trans (x3 g i).1, (s.al i).trans (x3 g i).2⟩, x4, x5⟩
theorem KS.nai {x : Int32} (kb : jkd h b = 71) (hK : K 71 = true) : KS K h (wai h b i x) := by
  have sm : ∀ q, q ≠ b → same h (wai h b i x) q := fun q hq => same_wai hq
  refine ⟨fun q _ _ q3 _ _ => sm q fun z => ?_, Nat.le_refl _, fun _ _ => rfl, fun o => o, fun q w k => ?_⟩
  · rw [z, kb, hK] at q3; cases q3
  · have z1 := k.2.1
    have z2 := k.2.2.2.2.1
    exact k.of (sm q fun z => by rw [z] at z1; omega) (sm _ fun z => by rw [z] at z2; omega)
def k71 (k : Nat) : Bool := Nat.beq k 71
theorem ktb_71 : KTb k71 := ⟨⟨rfl, rfl, rfl, rfl, rfl⟩, ⟨rfl, rfl, rfl⟩, ⟨rfl, rfl⟩, ⟨rfl, rfl, rfl, rfl⟩⟩
theorem OT.nai {x : Int32} (o : OT h) : OT (wai h b i x) := o
/-- the rows still to be made are the same -/
theorem nz_ks (a : KS K h h') (hI : JInv D h) (hK : KTb K) (kB : BasW D h B) : nb h' B = nb h B := by
  obtain ⟨_, s1, s2⟩ := kB.ks a hI hK
  have e : ∀ k, k < 4 → nbk h' B k = nbk h B k := fun k hk => by
    unfold nbk
    have et : tba h' B k = tba h B k := by unfold tba; rw [s1.fr, s2.ar]
    have tw := kB.2.2 k hk
    obtain ⟨t1, t2, _⟩ := a.tbs hI hK.1 tw
    rw [et, t1.fr]
    exact nz_same fun j _ => t2.ar j
  unfold nb
  rw [e 0 (by omega), e 1 (by omega), e 2 (by omega), e 3 (by omega)]
theorem EngT.nbks (k : EngT D h e T S) (a : KS K h h') (hI : JInv D h) (hK : KTb K) (s : same h h' e) : nbT h' e = nbT h e := by
  unfold nbT
  rw [s.fr, s.fr, nz_ks a hI hK k.2.1.2.1, nz_ks a hI hK k.2.2.1.2.1]
/-- rows to work with -/
def EnK (D : JD) (h : JH) (e : Nat) : Prop := WrkW D h (jfr h 29 e) 301 8 ∧ WrkW D h (jfr h 30 e) 300 24 ∧ WrkW D h (jfr h 31 e) 100 10
def pO (h : JH) (e : Nat) : Int := 21 * (nbT h e : Int) + (17 * (nz h (jfr h 29 e) 301 : Int) + (49 * (nz h (jfr h 30 e) 300 : Int) + 21 * (nz h (jfr h 31 e) 100 : Int)))
def pS (h : JH) (e : Nat) : Int := 460 * (nbT h e : Int) + (368 * (nz h (jfr h 29 e) 301 : Int) + (1104 * (nz h (jfr h 30 e) 300 : Int) + 460 * (nz h (jfr h 31 e) 100 : Int)))
def KWk (K : Nat → Bool) : Prop := K 133 = false ∧ K 134 = false ∧ K 135 = false ∧ K 223 = false ∧ K 97 = false ∧ K 144 = false
theorem WrkW.was {RA len nn : Nat} (k : WrkW D h RA len nn) (a : KS K h h') (hI : JInv D h) (kk : KWk K) : WaS h h' RA len nn := by
  obtain ⟨k1, k2, k3⟩ := k
  refine ⟨a.obj hI (by omega) (by omega) ?_, fun j hj hr => ?_⟩
  · rcases k1.2 with z | z | z <;> rw [z]
    · exact kk.1
    · exact kk.2.1
    · exact kk.2.2.1
  · have ru := (k3 j hj).resolve_left hr
    refine ⟨a.obj hI (by rw [ru.2.1]; decide) (by rw [ru.2.1]; decide) (by rw [ru.2.1]; exact kk.2.2.2.1), fun i hi => ?_⟩
    have cu := ru.2.2.2 i hi
    exact a.cel0 hI cu.1 (by rw [cu.2]; exact kk.2.2.2.2.1) kk.2.2.2.2.2
theorem EnK.ks (k : EnK D h e) (a : KS K h h') (hI : JInv D h) (kk : KWk K) (s : same h h' e) : EnK D h' e ∧ nz h' (jfr h' 29 e) 301 = nz h (jfr h 29 e) 301 ∧ nz h' (jfr h' 30 e) 300 = nz h (jfr h 30 e) 300 ∧ nz h' (jfr h' 31 e) 100 = nz h (jfr h 31 e) 100 := by
  obtain ⟨k1, k2, k3⟩ := k
  have s1 := k1.was a hI kk
  have s2 := k2.was a hI kk
  have s3 := k3.was a hI kk
  rw [show EnK D h' e = (WrkW D h' (jfr h' 29 e) 301 8 ∧ WrkW D h' (jfr h' 30 e) 300 24 ∧ WrkW D h' (jfr h' 31 e) 100 10) from rfl, s.fr, s.fr, s.fr]
  exact ⟨⟨k1.of s1, k2.of s2, k3.of s3⟩, nz_same fun j _ => s1.1.ar j, nz_same fun j _ => s2.1.ar j, nz_same fun j _ => s3.1.ar j⟩
theorem EngT.tbks {j : Nat} (k : EngT D h e T S) (a : KS K h h') (hI : JInv D h) (hK : KTb K) (s : same h h' e) : tba h' (jfr h' 20 e) j = tba h (jfr h 20 e) j := by
  obtain ⟨_, s1, s2⟩ := k.2.1.2.1.ks a hI hK
  unfold tba
  rw [s.fr, s1.fr, s2.ar]
/-- while a statement is worked out; the tables are T -/
def WkS (D : JD) (A : List Nod) (ρ : Nat → Nat) (e sc : Nat) (T S : List Tab) (pv : List Val) (ra rb : Int) (h h1 : JH) : Prop :=
  KS wkS h h1 ∧ SF D h h1 ∧ TreeR D h1 A ρ ∧ EngT D h1 e T S ∧ EnvP D h1 sc pv ∧ (∀ F, jfr h1 F e = jfr h F e) ∧ Sp h h1 (pO h e - pO h1 e + ra) (pS h e - pS h1 e + rb) ∧ (∀ j, tba h1 (jfr h1 20 e) j = tba h (jfr h 20 e) j) ∧ (∀ q, jkd h q = 31 → jfr h1 138 q = jfr h 138 q) ∧ EnK D h1 e
/-- a step that leaves tables and rows to work with -/
theorem WkS.ks {ra' rb' : Int} (W : WkS D A ρ e sc T S pv ra rb h h1) (hA : NOK A) (hI1 : JInv D h1) (ks : KS K h1 h2) (hK : KTb K) (hW : KWk K) (k3 : K 3 = false ∧ K 6 = false ∧ K 102 = false) (hp : K 137 = false ∧ K 162 = false) (l56 : jln h2 (jfr h1 56 sc) = jln h1 (jfr h1 56 sc)) (kw : KS wkS h1 h2) (sf : SF D h h2) (tr2 : TreeR D h2 A ρ) (ot : OT h1 → OT h2) (sp : Sp h1 h2 ra' rb') (f8 : ∀ q, jkd h1 q = 31 → jfr h2 138 q = jfr h1 138 q) : WkS D A ρ e sc T S pv (ra + ra') (rb + rb') h h2 := by
  obtain ⟨w1, w2, w3, w4, w5, w6, w7, w8, w9, w10⟩ := W
  obtain ⟨e2, s⟩ := w4.ks ks hI1 hK k3.1 (ot w4.2.2.2.2.1)
  have en := w4.nbks ks hI1 hK s
  obtain ⟨k2, n1, n2, n3⟩ := w10.ks ks hI1 hW s
  have eO : pO h2 e = pO h1 e := by unfold pO; rw [en, n1, n2, n3]
  have eS : pS h2 e = pS h1 e := by unfold pS; rw [en, n1, n2, n3]
  refine ⟨w1.tr kw, sf, tr2, e2, w5.ks ks hI1 k3.2.1 ⟨k3.2.2, hW.2.2.2.2.2⟩ hp l56, fun F => (s.fr F).trans (w6 F), ?_, fun j => (w4.tbks ks hI1 hK s).trans (w8 j), fun q hq => (f8 q ((w1.2.2.1 q (by rw [hq]; decide)).trans hq)).trans (w9 q hq), k2⟩
  rw [eO, eS]
  exact (w7.tr sp).mono (by omega) (by omega)
theorem WkS.mono {ra' rb' : Int} (W : WkS D A ρ e sc T S pv ra rb h h1) (h1' : ra ≤ ra') (h2' : rb ≤ rb') : WkS D A ρ e sc T S pv ra' rb' h h1 := by
  obtain ⟨w1, w2, w3, w4, w5, w6, w7, w8, w9, w10⟩ := W
  exact ⟨w1, w2, w3, w4, w5, w6, w7.mono (by omega) (by omega), w8, w9, w10⟩
theorem kwk_ev : KWk evKd := ⟨rfl, rfl, rfl, rfl, rfl, rfl⟩
theorem kwk_71 : KWk k71 := ⟨rfl, rfl, rfl, rfl, rfl, rfl⟩
theorem k71_50 : ∀ k, k < 226 → sbt k (ftg 50) = true → k71 k = false := by decide +kernel
theorem WkS.ev {lo hi : Nat} (W : WkS D A ρ e sc T S pv ra rb h h1) (hA : NOK A) (hI1 : JInv D h1) (a : EvF D sc (EM h1 A ρ lo hi) h1 h2) : WkS D A ρ e sc T S pv ra rb h h2 := by
  have w3 := W.2.2.1
  have ow : OW h1 := W.2.2.2.1.2.2.2.2.2
  have h56 := W.2.2.2.2.1.2.1.1
  have ks := a.eks hI1 ow w3 h56
  have sf := a.sf hA hI1 w3 ow h56
  exact (W.ks hA hI1 ks ktb_ev kwk_ev ⟨rfl, rfl, rfl⟩ ⟨rfl, rfl⟩ a.2.2.2.2.2.2.1 (ks.mono wkS_ev) (W.2.1.tr sf hI1) (w3.sf sf hA hI1) a.2.2.2.1.2.2 a.2.2.2.1.2.1 (fun q _ => a.2.2.2.2.1 138 q (by decide) (by decide))).mono (by omega) (by omega)
theorem WkS.nai {x : Int32} (W : WkS D A ρ e sc T S pv ra rb h h1) (hA : NOK A) (hI : JInv D h) (hI1 : JInv D h1) (tr : TreeR D h A ρ) (hb : jsz h < b) (kb : jkd h1 b = 71) : WkS D A ρ e sc T S pv ra rb h (wai h1 b i x) := by
  have sf := W.2.1.nai (i := i) (x := x) hI hb kb
  exact (W.ks hA hI1 (K := k71) (KS.nai kb rfl) ktb_71 kwk_71 ⟨rfl, rfl, rfl⟩ ⟨rfl, rfl⟩ rfl (KS.nai kb rfl) sf (tr.sf sf hA hI) (fun o => o.nai) Sp.ai (fun _ _ => rfl)).mono (by omega) (by omega)
/-- an array of truths is made -/
theorem KS.nA (hI : JInv D h) : KS K h (nwa h 71 n) := by
  refine ⟨fun q q1 _ _ _ _ => same_nwa q1, Nat.le_succ _, fun q hq => (same_nwa (hI.lt hq)).kd, fun o => o, fun q w k => ?_⟩
  have := k.lt hI
  exact k.of (same_nwa this.1) (same_nwa this.2)
theorem SF.nA (hI : JInv D h) : SF D h (nwa h 71 n) := by
  have sm : ∀ q, jkd h q ≠ 0 → same h (nwa h 71 n) q := fun q hq => same_nwa (hI.lt hq)
  have cs : ∀ c, CelW D h c → same h (nwa h 71 n) c ∧ (jfr h 67 c ≠ 0 → same h (nwa h 71 n) (jfr h 67 c)) := fun c cw => by
    have kc := cw.kd
    refine ⟨sm c (by omega), fun z => sm _ ?_⟩
    have := (cw.2.2.2.2.resolve_left z).1
    omega
  refine ⟨fun q hq => (sm q hq).kd, fun q hq _ => ?_, fun q hq => rfl, fun q _ cw => cs _ cw, fun c _ _ cw => cs c cw, fun c _ cw => cw.of (cs c cw).1 (cs c cw).2, fun q w k => ?_, fun o => o, Nat.le_succ _⟩
  · have s := sm q hq
    exact ⟨s.ln, fun F => ⟨fun _ => s.fi F, s.fl F, fun _ _ => s.fr F⟩, fun _ i => ⟨s.ai i, s.al i⟩, fun _ _ i => s.ar i, fun _ _ i => s.ar i⟩
  · have := k.lt hI
    exact k.of (same_nwa this.1) (same_nwa this.2)
theorem OT.nA (o : OT h) (hI : JInv D h) : OT (nwa h 71 n) := by
  have kk : ∀ a, okd (jkd (nwa h 71 n) a) = true → okd (jkd h a) = true := fun a ha => by
    by_cases z : a = jsz h + 1
    · rw [z] at ha
      rw [show jkd (nwa h 71 n) (jsz h + 1) = 71 from by simp only [jkd_wfi, jln_wfi, jfi_wfi, jfl_wfi, jfr_wfi, jai_wfi, jal_wfi, jar_wfi, jsz_wfi, jus_wfi, jkd_wfl, jln_wfl, jfi_wfl, jfl_wfl, jfr_wfl, jai_wfl, jal_wfl, jar_wfl, jsz_wfl, jus_wfl, jkd_wfr, jln_wfr, jfi_wfr, jfl_wfr, jfr_wfr, jai_wfr, jal_wfr, jar_wfr, jsz_wfr, jus_wfr, jkd_wai, jln_wai, jfi_wai, jfl_wai, jfr_wai, jai_wai, jal_wai, jar_wai, jsz_wai, jus_wai, jkd_wal, jln_wal, jfi_wal, jfl_wal, jfr_wal, jai_wal, jal_wal, jar_wal, jsz_wal, jus_wal, jkd_war, jln_war, jfi_war, jfl_war, jfr_war, jai_war, jal_war, jar_war, jsz_war, jus_war, jkd_nwo, jln_nwo, jfi_nwo, jfl_nwo, jfr_nwo, jai_nwo, jal_nwo, jar_nwo, jsz_nwo, jus_nwo, jkd_nwa, jln_nwa, jfi_nwa, jfl_nwa, jfr_nwa, jai_nwa, jal_nwa, jar_nwa, jsz_nwa, jus_nwa, jkd_cpa, jln_cpa, jfi_cpa, jfl_cpa, jfr_cpa, jai_cpa, jal_cpa, jar_cpa, jsz_cpa, jus_cpa, if_true]] at ha
      cases ha
    · have : jkd (nwa h 71 n) a = jkd h a := by simp only [jkd_wfi, jln_wfi, jfi_wfi, jfl_wfi, jfr_wfi, jai_wfi, jal_wfi, jar_wfi, jsz_wfi, jus_wfi, jkd_wfl, jln_wfl, jfi_wfl, jfl_wfl, jfr_wfl, jai_wfl, jal_wfl, jar_wfl, jsz_wfl, jus_wfl, jkd_wfr, jln_wfr, jfi_wfr, jfl_wfr, jfr_wfr, jai_wfr, jal_wfr, jar_wfr, jsz_wfr, jus_wfr, jkd_wai, jln_wai, jfi_wai, jfl_wai, jfr_wai, jai_wai, jal_wai, jar_wai, jsz_wai, jus_wai, jkd_wal, jln_wal, jfi_wal, jfl_wal, jfr_wal, jai_wal, jal_wal, jar_wal, jsz_wal, jus_wal, jkd_war, jln_war, jfi_war, jfl_war, jfr_war, jai_war, jal_war, jar_war, jsz_war, jus_war, jkd_nwo, jln_nwo, jfi_nwo, jfl_nwo, jfr_nwo, jai_nwo, jal_nwo, jar_nwo, jsz_nwo, jus_nwo, jkd_nwa, jln_nwa, jfi_nwa, jfl_nwa, jfr_nwa, jai_nwa, jal_nwa, jar_nwa, jsz_nwa, jus_nwa, jkd_cpa, jln_cpa, jfi_cpa, jfl_cpa, jfr_cpa, jai_cpa, jal_cpa, jar_cpa, jsz_cpa, jus_cpa, if_neg z]
      rw [← this]; exact ha
  exact ⟨fun a b i j ha hb => o.1 a b i j (kk a ha) (kk b hb), o.2⟩
theorem WkS.rf (tr : TreeR D h A ρ) (en : EngT D h e T S) (ek : EnK D h e) (ep : EnvP D h sc pv) : WkS D A ρ e sc T S pv 0 0 h h := ⟨KS.rf, SF.rf, tr, en, ep, fun _ => rfl, (Sp.rf _).mono (by omega) (by omega), fun _ => rfl, fun _ _ => rfl, ek⟩
theorem WkS.start (hA : NOK A) (hI : JInv D h) (tr : TreeR D h A ρ) (en : EngT D h e T S) (ek : EnK D h e) (ep : EnvP D h sc pv) : WkS D A ρ e sc T S pv 1 n h (nwa h 71 n) :=
  ((WkS.rf tr en ek ep).ks hA hI (K := k71) (KS.nA hI) ktb_71 kwk_71 ⟨rfl, rfl, rfl⟩ ⟨rfl, rfl⟩ (same_nwa hI.refl).ln (KS.nA hI) (SF.nA hI) (tr.sf (SF.nA hI) hA hI) (fun o => o.nA hI) (Sp.nA (by decide)) (fun _ _ => rfl)).mono (by omega) (by omega)
/-- faults that come of a work: the tables are those at the start -/
def WkX (D : JD) (e : Nat) (T S : List Tab) (ra rb : Int) (h h' : JH) (z : Nat) (c : Str) : Prop := ∃ hm, KS wkS h hm ∧ SF D h hm ∧ EngT D hm e T S ∧ (∀ F, jfr hm F e = jfr h F e) ∧ Sp h hm (pO h e - pO hm e + ra) (pS h e - pS hm e + rb) ∧ EnK D hm e ∧ FlX hm h' z c
theorem WkS.x {z : Nat} {c : Str} (W : WkS D A ρ e sc T S pv ra rb h h1) (f : FlX h1 h' z c) : WkX D e T S ra rb h h' z c := ⟨h1, W.1, W.2.1, W.2.2.2.1, W.2.2.2.2.2.1, W.2.2.2.2.2.2.1, W.2.2.2.2.2.2.2.2.2, f⟩
theorem WkX.mono {ra' rb' : Int} {z : Nat} {c : Str} (W : WkX D e T S ra rb h h' z c) (h1 : ra ≤ ra') (h2 : rb ≤ rb') : WkX D e T S ra' rb' h h' z c := by
  obtain ⟨hm, a, b, c, d, s, k, f⟩ := W
  exact ⟨hm, a, b, c, d, s.mono (by omega) (by omega), k, f⟩
theorem NewT.sp (a : NewT h h') : Sp h h' 8 220 := by
  obtain ⟨a1, a2, a3, a4, a5, a6⟩ := a
  refine (Sp.of (n := 4) (m := 60) (fun q _ hq => ?_) a2 a3 a4).mono (by omega) (by omega)
  have s := a1 q hq (fun z => z)
  unfold wq
  rw [s.kd, s.fr, s.fr]
  exact Nat.le_refl _
theorem NewT.wk (W : WkS D A ρ e sc T S pv ra rb h h1) (hA : NOK A) (hI1 : JInv D h1) (a : NewT h1 h2) : WkS D A ρ e sc T S pv (ra + 8) (rb + 220) h h2 := by
  have kf : KF k71 h1 h2 := a.kf hI1
  have ks : KS k71 h1 h2 := kf.ks hI1 ⟨rfl, rfl, rfl, rfl⟩
  have k0 : KF (fun _ => false) h1 h2 := a.kf hI1
  have sf : SF D h1 h2 := k0.sf hI1 fun k z => by cases z
  refine W.ks hA hI1 ks ktb_71 kwk_71 ⟨rfl, rfl, rfl⟩ ⟨rfl, rfl⟩ (a.1 _ hI1.refl (fun z => z)).ln (ks.mono fun k z => ?_) (W.2.1.tr sf hI1) (W.2.2.1.sf sf hA hI1) (fun o => a.ot hI1 o) a.sp (fun q _ => a.2.2.2.2.1 138 q (by decide) (by decide))
  have z : Nat.beq k 71 = true := z
  unfold wkS
  rw [z]; rfl
end
