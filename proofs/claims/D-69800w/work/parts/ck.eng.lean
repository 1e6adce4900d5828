/-! the component: the engine saves its tables and takes them back -/
section
variable {D : JD} {h h' h'' h1 h2 : JH} {q c r i v k j d e sc n B B' u : Nat} {T S : List Tab}
/-- the engine e: tables now and saved -/
def EngT (D : JD) (h : JH) (e : Nat) (T S : List Tab) : Prop := (e ≠ 0 ∧ jkd h e = 3) ∧ (jfr h 20 e ≠ 0 ∧ BasR D h (jfr h 20 e) T) ∧ (jfr h 21 e ≠ 0 ∧ BasR D h (jfr h 21 e) S) ∧ jfr h 40 (jfr h 20 e) ≠ jfr h 40 (jfr h 21 e) ∧ OT h ∧ OW h
def nbT (h : JH) (e : Nat) : Nat := nb h (jfr h 20 e) + nb h (jfr h 21 e)
def engK (k : Nat) : Bool := bK k || Nat.beq k 3
theorem engK_b (k : Nat) (e : bK k = true) : engK k = true := by unfold engK; rw [e]; rfl
theorem engK_w : ∀ k, engK k = true → wkd k = true ∧ k ≠ 12 ∧ k ≠ 98 ∧ k ≠ 99 ∧ k ≠ 144 := fun k e => by
  unfold engK bK tK at e
  simp only [Bool.or_eq_true, Nat.beq_eq] at e
  rcases e with ((e | e | e | e) | e | e | e) | e <;> rw [e] <;> decide
/-- what changes when tables are saved or taken back -/
def EgF (e : Nat) (h h' : JH) : Prop := KF engK h h' ∧ (∀ F, jfr h' F e = jfr h F e) ∧ Sp h h' (21 * ((nbT h e : Int) - nbT h' e)) (460 * ((nbT h e : Int) - nbT h' e))
theorem EgF.rf : EgF e h h := ⟨KF.rf, fun _ => rfl, (Sp.rf _).mono (by omega) (by omega)⟩
theorem EgF.tr (a : EgF e h h') (b : EgF e h' h'') : EgF e h h'' := ⟨a.1.tr b.1, fun F => (b.2.1 F).trans (a.2.1 F), (a.2.2.tr b.2.2).mono (by omega) (by omega)⟩
theorem EgF.sf (a : EgF e h h') (hI : JInv D h) : SF D h h' := a.1.sf hI engK_w
/-- the rows that another base still is to make stay -/
theorem BF.nbO (a : BF D B h h') (hI : JInv D h) (ot : OT h) (k0 : BasW D h B) (k1 : BasW D h B') (ne : B' ≠ B) (na : jfr h 40 B' ≠ jfr h 40 B) : nb h' B' = nb h B' := by
  obtain ⟨c1, c2⟩ := a.2.2.2.2.1 B' ne k1 na
  have et : ∀ k, tba h' B' k = tba h B' k := fun k => by unfold tba; rw [c1.fr, c2.ar]
  have en : ∀ k, k < 4 → nbk h' B' k = nbk h B' k := fun k hk => by
    have s := a.2.1 _ (fun k' _ => tba_ne hI ot k0 k1 na hk) (k1.2.2 k hk)
    unfold nbk
    rw [et, s.1.fr]
    exact nz_same fun i _ => s.2.1.ar i
  unfold nb
  rw [en 0 (by omega), en 1 (by omega), en 2 (by omega), en 3 (by omega)]
theorem EngT.ne (k : EngT D h e T S) (hI : JInv D h) : jfr h 20 e ≠ jfr h 21 e := fun z => k.2.2.2.1 (by rw [z])
/-- one base becomes as the other -/
theorem w_copyB {cp : Bool} (k : EngT D h e T S) (hd : 11 ≤ d) : cX4_copy D d (if cp = true then jfr h 21 e else jfr h 20 e) (if cp = true then jfr h 20 e else jfr h 21 e) h (pV D h (fun h' => EngT D h' e (if cp = true then T else S) (if cp = true then T else S) ∧ EgF e h h' ∧ same h h' e) no) := by
  refine JW.inv fun hI => ?_
  obtain ⟨⟨k1, k2⟩, ⟨k3, k4⟩, ⟨k5, k6⟩, k7, k8, k9⟩ := k
  have ne : jfr h 20 e ≠ jfr h 21 e := fun z => k7 (by rw [z])
  have se : ∀ {h' : JH}, KF bK h h' → same h h' e := fun a => a.obj hI (by omega) (by omega) (by rw [k2]; rfl)
  cases cp with
  | true =>
    refine useV0 (w_bcopy k6.1 k4 ne k7 k8 k9 hd) ?_
    rintro h1 hI1 _ ⟨bf, b1, b2⟩
    have bf : BF D (jfr h 21 e) h h1 := bf
    have s := se bf.1
    have c := bf.2.2.2.2.1 _ ne k4.1 k7
    have en := bf.nbO hI k8 k6.1 k4.1 ne k7
    refine ⟨⟨⟨k1, by rw [s.kd]; exact k2⟩, by rw [s.fr]; exact ⟨k3, b2⟩, by rw [s.fr]; exact ⟨k5, b1⟩, ?_, bf.2.2.1 k8, bf.1.2.2.2 k9⟩, ⟨bf.1.mono engK_b, fun F => s.fr F, ?_⟩, s⟩
    · rw [s.fr, s.fr, c.1.fr, bf.2.2.2.1.1]; exact k7
    · unfold nbT
      rw [s.fr, s.fr, en]
      exact bf.2.2.2.2.2.2.mono (by omega) (by omega)
  | false =>
    refine useV0 (w_bcopy k4.1 k6 ne.symm k7.symm k8 k9 hd) ?_
    rintro h1 hI1 _ ⟨bf, b1, b2⟩
    have bf : BF D (jfr h 20 e) h h1 := bf
    have s := se bf.1
    have c := bf.2.2.2.2.1 _ ne.symm k6.1 k7.symm
    have en := bf.nbO hI k8 k4.1 k6.1 ne.symm k7.symm
    refine ⟨⟨⟨k1, by rw [s.kd]; exact k2⟩, by rw [s.fr]; exact ⟨k3, b1⟩, by rw [s.fr]; exact ⟨k5, b2⟩, ?_, bf.2.2.1 k8, bf.1.2.2.2 k9⟩, ⟨bf.1.mono engK_b, fun F => s.fr F, ?_⟩, s⟩
    · rw [s.fr, s.fr, c.1.fr, bf.2.2.2.1.1]; exact k7
    · unfold nbT
      rw [s.fr, s.fr, en]
      exact bf.2.2.2.2.2.2.mono (by omega) (by omega)
theorem w_save (k : EngT D h e T S) (hd : 12 ≤ d) : cX3_save D d e h (pV D h (fun h' => EngT D h' e T T ∧ EgF e h h' ∧ same h h' e) no) := by
  obtain ⟨d, rfl, he⟩ := dsucc hd
  refine t_X3_save ⟨k.1.1, k.2.2.1.1, useV0 (w_copyB (cp := true) k (by omega)) ?_⟩
  exact fun h1 hI1 _ z => endV fun _ _ => z
theorem w_bback (k : EngT D h e T S) (hd : 12 ≤ d) : cX3_back D d e h (pV D h (fun h' => EngT D h' e S S ∧ EgF e h h' ∧ same h h' e) no) := by
  obtain ⟨d, rfl, he⟩ := dsucc hd
  refine t_X3_back ⟨k.1.1, k.2.1.1, useV0 (w_copyB (cp := false) k (by omega)) ?_⟩
  exact fun h1 hI1 _ z => endV fun _ _ => z
/-- a flag of the engine is written -/
theorem EngT.flag {F : Nat} {x : Int32} (k : EngT D h e T S) (hI : JInv D h) : EngT D (wfi h F e x) e T S ∧ EgF e h (wfi h F e x) := by
  obtain ⟨⟨k1, k2⟩, ⟨k3, k4⟩, ⟨k5, k6⟩, k7, k8, k9⟩ := k
  have kf : KF (fun j => Nat.beq j 3) h (wfi h F e x) := by
    refine ⟨fun q _ _ q3 _ => same_wfi fun z => ?_, Nat.le_refl _, fun _ _ => rfl, fun o => o⟩
    have q3 : Nat.beq (jkd h q) 3 = false := q3
    rw [z, k2] at q3
    cases q3
  have kt : KTb (fun j => Nat.beq j 3) := ⟨⟨rfl, rfl, rfl, rfl, rfl⟩, ⟨rfl, rfl, rfl⟩, ⟨rfl, rfl⟩, ⟨rfl, rfl, rfl, rfl⟩⟩
  refine ⟨⟨⟨k1, k2⟩, ⟨k3, k4.kf kf hI kt⟩, ⟨k5, k6.kf kf hI kt⟩, k7, k8, k9⟩, kf.mono (fun j ej => ?_), fun _ => rfl, Sp.fi.mono ?_ ?_⟩
  · unfold engK
    have ej : Nat.beq j 3 = true := ej
    rw [ej, Bool.or_true]
  · have : nbT (wfi h F e x) e = nbT h e := rfl
    rw [this]; omega
  · have : nbT (wfi h F e x) e = nbT h e := rfl
    rw [this]; omega
theorem w_rollback (k : EngT D h e T S) (hd : 13 ≤ d) : cX3_rollback D d e h (pR D h 64 (fun v h' => v = jcs D 188 ∧ EngT D h' e S S ∧ EgF e h h' ∧ jfi h' 36 e = 0 ∧ jfi h' 37 e = 0 ∧ ∀ F, F ≠ 36 → F ≠ 37 → jfi h' F e = jfi h F e) no) := by
  obtain ⟨d, rfl, he⟩ := dsucc hd
  refine t_X3_rollback ⟨k.1.1, useV0 (w_bback k (by omega)) ?_⟩
  rintro h1 hI1 _ ⟨k1, f1, s1⟩
  rintro h2 rfl h3 rfl
  have j1 : jbs D < e := hI1.2.1 e (by rw [k1.1.2]; rfl)
  have e1 : e ≤ jsz h1 := hI1.lt (by rw [k1.1.2]; decide)
  obtain ⟨k2, f2⟩ := k1.flag (F := 36) (x := 0) hI1
  have hI2 : JInv D (wfi h1 36 e 0) := hI1.wfi j1 e1
  obtain ⟨k3, f3⟩ := k2.flag (F := 37) (x := 0) hI2
  refine endR fun _ _ _ => ⟨rfl, k3, (f1.tr f2).tr f3, ?_, ?_, fun F g1 g2 => ?_⟩
  · rw [jfi_wfi, if_neg (by omega), jfi_wfi, if_pos ⟨rfl, rfl⟩]
  · rw [jfi_wfi, if_pos ⟨rfl, rfl⟩]
  · rw [jfi_wfi, if_neg (by omega), jfi_wfi, if_neg (by omega)]; exact s1.fi F
theorem w_begin (k : EngT D h e T S) (hd : 13 ≤ d) : cX3_begin D d e h (pR D h 64 (fun v h' => v = jcs D 187 ∧ EngT D h' e T (if jfi h 36 e = 0 then T else S) ∧ EgF e h h' ∧ jfi h' 36 e = 1 ∧ ∀ F, F ≠ 36 → jfi h' F e = jfi h F e) no) := by
  obtain ⟨d, rfl, he⟩ := dsucc hd
  refine JW.inv fun hI => t_X3_begin ⟨k.1.1, fun g => ⟨k.1.1, ?_⟩, fun g => useV0 (w_save k (by omega)) ?_⟩
  · rintro h2 rfl
    obtain ⟨k2, f2⟩ := k.flag (F := 36) (x := 1) hI
    rw [if_neg g]
    exact endR fun _ _ _ => ⟨rfl, k2, f2, by rw [jfi_wfi, if_pos ⟨rfl, rfl⟩], fun F g1 => by rw [jfi_wfi, if_neg (by omega)]⟩
  · rintro h1 hI1 _ ⟨k1, f1, s1⟩
    refine ⟨k.1.1, ?_⟩
    rintro h2 rfl
    obtain ⟨k2, f2⟩ := k1.flag (F := 36) (x := 1) hI1
    rw [if_pos g]
    exact endR fun _ _ _ => ⟨rfl, k2, f1.tr f2, by rw [jfi_wfi, if_pos ⟨rfl, rfl⟩], fun F g1 => by rw [jfi_wfi, if_neg (by omega)]; exact s1.fi F⟩
theorem w_commit (k : EngT D h e T S) (hd : 14 ≤ d) : cX3_commit D d e h (pR D h 64 (fun v h' => v = (if jfi h 37 e = 0 then jcs D 189 else jcs D 188) ∧ EngT D h' e (if jfi h 37 e = 0 then T else S) (if jfi h 37 e = 0 then T else S) ∧ EgF e h h' ∧ jfi h' 36 e = 0 ∧ jfi h' 37 e = 0 ∧ ∀ F, F ≠ 36 → F ≠ 37 → jfi h' F e = jfi h F e) no) := by
  obtain ⟨d, rfl, he⟩ := dsucc hd
  refine JW.inv fun hI => t_X3_commit ⟨k.1.1, fun g => useV0 (w_save k (by omega)) ?_, fun g => useR0 (w_rollback k (by omega)) ?_⟩
  · rintro h1 hI1 _ ⟨k1, f1, s1⟩
    rintro h2 rfl
    obtain ⟨k2, f2⟩ := k1.flag (F := 36) (x := 0) hI1
    rw [if_pos g, if_pos g]
    exact endR fun _ _ _ => ⟨rfl, k2, f1.tr f2, by rw [jfi_wfi, if_pos ⟨rfl, rfl⟩], by rw [jfi_wfi, if_neg (by omega), s1.fi]; exact g, fun F g1 g2 => by rw [jfi_wfi, if_neg (by omega)]; exact s1.fi F⟩
  · rintro v h1 hI1 _ z
    rw [if_neg g, if_neg g]
    exact endR fun _ _ _ => z
theorem w_failed (k : EngT D h e T S) (hd : 13 ≤ d) : cX3_failed D d e h (pV D h (fun h' => EngT D h' e (if jfi h 36 e = 0 then S else T) S ∧ EgF e h h' ∧ jfi h' 37 e = (if jfi h 36 e = 0 then jfi h 37 e else 1) ∧ ∀ F, F ≠ 37 → jfi h' F e = jfi h F e) no) := by
  obtain ⟨d, rfl, he⟩ := dsucc hd
  refine JW.inv fun hI => t_X3_failed ⟨k.1.1, fun g => useV0 (w_bback k (by omega)) ?_, fun g => ?_⟩
  · rintro h1 hI1 _ ⟨k1, f1, s1⟩
    rw [if_pos g, if_pos g]
    exact endV fun _ _ => ⟨k1, f1, s1.fi _, fun F _ => s1.fi F⟩
  · rintro h2 rfl
    obtain ⟨k2, f2⟩ := k.flag (F := 37) (x := 1) hI
    rw [if_neg g, if_neg g]
    exact endV fun _ _ => ⟨k2, f2, by rw [jfi_wfi, if_pos ⟨rfl, rfl⟩], fun F g1 => by rw [jfi_wfi, if_neg (by omega)]⟩
theorem w_estat (e0 : e ≠ 0) (hd : 1 ≤ d) : cX3_status D d e h (pI D h (fun v h' => v = (if jfi h 36 e = 0 then 73 else if jfi h 37 e = 0 then 84 else 69) ∧ h' = h) no) := by
  obtain ⟨d, rfl, he⟩ := dsucc hd
  refine t_X3_status ⟨e0, fun g => ⟨fun g2 => endI fun _ _ => ⟨by rw [if_neg g, if_pos g2], rfl⟩, fun g2 => endI fun _ _ => ⟨by rw [if_neg g, if_neg g2], rfl⟩⟩, fun g => endI fun _ _ => ⟨by rw [if_pos g], rfl⟩⟩
end
