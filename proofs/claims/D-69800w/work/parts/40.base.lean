/-! rows in the form that tools/gen_wp.py prints: heaps and results are named, locals may be forgotten, tags widened -/
def jgv (h : JH) (a b : JV) : Prop := a = b ∨ ∃ t t' r, a = vR t r ∧ b = vR t' r ∧ (r = 0 ∨ sbt t t' = true ∨ sbt (jkd h r) t' = true)
def jgl (h : JH) : List (Option JV) → List (Option JV) → Prop
  | [], [] => True
  | _ :: l, none :: l' => jgl h l l'
  | some a :: l, some b :: l' => jgv h a b ∧ jgl h l l'
  | _, _ => False
def jgs (h : JH) : List JV → List JV → Prop
  | [], [] => True
  | a :: l, b :: l' => jgv h a b ∧ jgs h l l'
  | _, _ => False
theorem jgv.vv {g : JH} {a b : JV} (h : jgv g a b) : Jvm.Pilot.CWireRelationsLaw_law_r6792_b43eef.vv b = Jvm.Pilot.CWireRelationsLaw_law_r6792_b43eef.vv a := by
  rcases h with rfl | ⟨t, t', r, rfl, rfl, _⟩
  · rfl
  · rfl
theorem jgv.ok {h : JH} {a b : JV} (hg : jgv h a b) (ha : jok h a) : jok h b := by
  rcases hg with rfl | ⟨t, t', r, rfl, rfl, h0⟩
  · exact ha
  · rcases h0 with h0 | h0
    · exact Or.inl h0
    · rcases h0 with h0 | h0
      · rcases ha with q | q
        · exact Or.inl q
        · exact Or.inr (sbt_trans q h0)
      · exact Or.inr h0
theorem jgl.sub {g : JH} {l l' : List (Option JV)} (h : jgl g l l') (n : Nat) : ∀ q ∈ jasc n l', q ∈ jasc n l := by
  induction l generalizing l' n with
  | nil => cases l' with
    | nil => intro q hq; exact hq
    | cons a l' => cases a <;> exact h.elim
  | cons a l ih => cases l' with
    | nil => cases a <;> exact h.elim
    | cons b l' => cases b with
      | none =>
        have h' : jgl g l l' := by cases a <;> exact h
        intro q hq
        have := ih h' (n + 1) q hq
        cases a with
        | none => exact this
        | some a => exact List.mem_cons_of_mem _ this
      | some b => cases a with
        | none => exact h.elim
        | some a =>
          obtain ⟨h1, h2⟩ : jgv g a b ∧ jgl g l l' := h
          intro q hq
          rcases List.mem_cons.mp hq with e | e
          · rw [e, h1.vv]; exact List.mem_cons_self
          · exact List.mem_cons_of_mem _ (ih h2 (n + 1) q e)
theorem jgl.ok {h : JH} {l l' : List (Option JV)} (hg : jgl h l l') (hl : ∀ v, some v ∈ l → jok h v) : ∀ v, some v ∈ l' → jok h v := by
  induction l generalizing l' with
  | nil => cases l' with
    | nil => exact hl
    | cons a l' => cases a <;> exact hg.elim
  | cons a l ih => cases l' with
    | nil => cases a <;> exact hg.elim
    | cons b l' => cases b with
      | none =>
        have h' : jgl h l l' := by cases a <;> exact hg
        intro v hv
        rcases List.mem_cons.mp hv with e | e
        · cases e
        · exact ih h' (fun v hv => hl v (List.mem_cons_of_mem _ hv)) v e
      | some b => cases a with
        | none => exact hg.elim
        | some a =>
          obtain ⟨h1, h2⟩ : jgv h a b ∧ jgl h l l' := hg
          intro v hv
          rcases List.mem_cons.mp hv with e | e
          · cases e; exact h1.ok (hl _ List.mem_cons_self)
          · exact ih h2 (fun v hv => hl v (List.mem_cons_of_mem _ hv)) v e
theorem jgs.vv {g : JH} {l l' : List JV} (h : jgs g l l') : l'.map Jvm.Pilot.CWireRelationsLaw_law_r6792_b43eef.vv = l.map Jvm.Pilot.CWireRelationsLaw_law_r6792_b43eef.vv := by
  induction l generalizing l' with
  | nil => cases l' with
    | nil => rfl
    | cons a l' => exact h.elim
  | cons a l ih => cases l' with
    | nil => exact h.elim
    | cons b l' =>
      obtain ⟨h1, h2⟩ : jgv g a b ∧ jgs g l l' := h
      rw [List.map_cons, List.map_cons, h1.vv, ih h2]
theorem jgs.ok {h : JH} {l l' : List JV} (hg : jgs h l l') (hl : ∀ v ∈ l, jok h v) : ∀ v ∈ l', jok h v := by
  induction l generalizing l' with
  | nil => cases l' with
    | nil => exact hl
    | cons a l' => exact hg.elim
  | cons a l ih => cases l' with
    | nil => exact hg.elim
    | cons b l' =>
      obtain ⟨h1, h2⟩ : jgv h a b ∧ jgs h l l' := hg
      intro v hv
      rcases List.mem_cons.mp hv with e | e
      · rw [e]; exact h1.ok (hl _ List.mem_cons_self)
      · exact ih h2 (fun v hv => hl v (List.mem_cons_of_mem _ hv)) v e
theorem jgl_rf (h : JH) (l : List (Option JV)) : jgl h l l := by
  induction l with
  | nil => trivial
  | cons a l ih => cases a with
    | none => exact ih
    | some a => exact ⟨Or.inl rfl, ih⟩
theorem jgs_rf (h : JH) (l : List JV) : jgs h l l := by
  induction l with
  | nil => trivial
  | cons a l ih => exact ⟨Or.inl rfl, ih⟩
/-- an index within an array -/
def jin (j : Int32) (n : Nat) : Prop := ¬ j < 0 ∧ j.toNatClampNeg < n
abbrev ixn (j : Int32) : Nat := j.toNatClampNeg
theorem jin.ix {j : Int32} {n : Nat} (h : jin j n) : jix j (ixn j) := ⟨h.1, rfl⟩
def jbo (v : Int32) : Prop := v = 0 ∨ v = 1
theorem jbo.nr {v : Int32} (h : jbo v) : narrow .boolean (.int v) = .int v := by
  rcases h with rfl | rfl <;> rfl
theorem jbo.ft {v : Int32} (h : jbo v) : fits .boolean (.int v) = true := by
  rcases h with rfl | rfl <;> rfl
theorem jbo0 : jbo 0 := Or.inl rfl
theorem jbo1 : jbo 1 := Or.inr rfl
/-- bytes -/
def jby (x : Int32) : Prop := x.toInt8.toInt32 = x
theorem jby.ft {x : Int32} (h : jby x) : fits .byte (.int x) = true := by
  unfold jby at h
  rw [← h]
  simp only [fits, Bool.and_eq_true, decide_eq_true_eq, Int32.le_iff_toInt_le, Int8.toInt_toInt32]
  have h1 := x.toInt8.le_toInt
  have h2 := x.toInt8.toInt_lt
  constructor
  · show (-128 : Int) ≤ _; omega
  · show _ ≤ (127 : Int); omega
theorem jby_b (x : Int32) : jby x.toInt8.toInt32 := by
  unfold jby
  simp
theorem jby.nr {x : Int32} (h : jby x) : narrow .byte (.int x) = .int x := by
  unfold jby at h
  show Value.int x.toInt8.toInt32 = _
  rw [h]
def pI (D : JD) (h : JH) (K : Int32 → JH → Prop) (E : Nat → JH → Prop) (r : JO) (h1 : JH) : Prop := JInv D h1 → jle h h1 → match r with
  | .inl (some (.inl v)) => K v h1
  | .inr x => E x h1
  | _ => False
def pL (D : JD) (h : JH) (K : Int64 → JH → Prop) (E : Nat → JH → Prop) (r : JO) (h1 : JH) : Prop := JInv D h1 → jle h h1 → match r with
  | .inl (some (.inr (.inl v))) => K v h1
  | .inr x => E x h1
  | _ => False
def pR (D : JD) (h : JH) (g : Nat) (K : Nat → JH → Prop) (E : Nat → JH → Prop) (r : JO) (h1 : JH) : Prop := JInv D h1 → jle h h1 → jokO h1 r → match r with
  | .inl (some (.inr (.inr q))) => q.1 = g ∧ K q.2 h1
  | .inr x => E x h1
  | _ => False
def pV (D : JD) (h : JH) (K : JH → Prop) (E : Nat → JH → Prop) (r : JO) (h1 : JH) : Prop := JInv D h1 → jle h h1 → match r with
  | .inl none => K h1
  | .inr x => E x h1
  | _ => False
/-- an exception goes on to the caller -/
abbrev jth (Q : JO → JH → Prop) (x : Nat) (h1 : JH) : Prop := Q (.inr x) h1
def jsw (cs : List (Int32 × Nat)) (dt : Nat) (x : Int32) : Nat := match cs with
  | [] => dt
  | q :: l => if x = q.1 then q.2 else jsw l dt x
theorem jsw_hit {cs : List (Int32 × Nat)} {dt : Nat} {x c : Int32} {t : Nat} (h : x = c) : jsw ((c, t) :: cs) dt x = t := if_pos h
theorem jsw_miss {cs : List (Int32 × Nat)} {dt : Nat} {x c : Int32} {t : Nat} (h : ¬ x = c) : jsw ((c, t) :: cs) dt x = jsw cs dt x := if_neg h
theorem jsw_nil {dt : Nat} {x : Int32} : jsw [] dt x = dt := rfl
def jlk (pc : Nat) (dflt : Int) (dt : Nat) : List (Int × Int) → List (Int32 × Nat) → Bool
  | [], [] => decide ((pc : Int) + dflt = (dt : Int))
  | p :: ps, c :: cs => decide (c.1.toInt = p.1 ∧ (pc : Int) + p.2 = (c.2 : Int)) && jlk pc dflt dt ps cs
  | _, _ => false
theorem jlk_off {pc : Nat} {dflt : Int} {dt : Nat} {ps : List (Int × Int)} {cs : List (Int32 × Nat)} (h : jlk pc dflt dt ps cs = true) (x : Int32) : (pc : Int) + Op.lookupswitch.offset ps dflt x.toInt = (jsw cs dt x : Int) := by
  induction ps generalizing cs with
  | nil => cases cs with
    | nil => simpa [jlk, Op.lookupswitch.offset, jsw] using h
    | cons c cs => simp [jlk] at h
  | cons p ps ih => cases cs with
    | nil => simp [jlk] at h
    | cons c cs =>
      simp only [jlk, Bool.and_eq_true, decide_eq_true_eq] at h
      obtain ⟨⟨h1, h2⟩, h3⟩ := h
      have := ih h3
      by_cases e : x = c.1
      · rw [jsw_hit (c := c.1) (t := c.2) e]
        rw [e, h1]
        simp [Op.lookupswitch.offset, h2]
      · rw [jsw_miss (c := c.1) (t := c.2) e]
        have : ¬ p.1 = x.toInt := fun z => e (Int32.toInt_inj.mp (by rw [h1, z]))
        simp [Op.lookupswitch.offset, this, *]
section JB
variable {D : JD} {d : Nat} {M M' : JM} {pc pc' : Nat} {ls ls' : List (Option JV)} {st st' : List JV} {h h1 : JH} {Q : JO → JH → Prop}
theorem JW.oks (k : (∀ v ∈ st, jok h v) → JW D d M pc ls st h Q) : JW D d M pc ls st h Q := fun hI hl hs => k hs hI hl hs
theorem jw_gen (hl : jgl h ls ls') (hs : jgs h st st') (k : JW D d M pc ls' st' h Q) : JW D d M pc ls st h Q := by
  refine jw_of (fun a b => ⟨hl.ok a, hs.ok b⟩) (fun r h' kx => ?_) k
  intro hI h1 h2
  obtain ⟨a, b⟩ := kx hI (hl.ok h1) (hs.ok h2)
  refine ⟨a, fun p l e R s m args below meth c H locs c0 u0 K lsA hF hR hL q1 q2 q3 q4 q5 q6 q7 q8 => ?_⟩
  rw [← hs.vv]
  exact b p l e R s m args below meth c H locs c0 u0 K lsA hF hR ⟨hL.1, hL.2.1, fun q hq => hL.2.2 q (hl.sub 0 q hq)⟩ q1 q2 q3 q4 q5 q6 q7 q8
theorem jw_tsw {len : Nat} {dflt lo hi : Int} {offs : Array Int} {x : Int32} {cs : List (Int32 × Nat)} {dt : Nat} (hd : jmT M pc = some (.tableswitch dflt lo hi offs, len))
    (hk : (decide ((pc : Int) + dflt = (dt : Int)) && (decide (offs.size = (hi - lo + 1).toNat) && ((List.range offs.size).all (fun i => decide ((pc : Int) + offs.toList.getD i 0 = (jsw cs dt (Int32.ofInt (lo + (i : Int))) : Int))) && cs.all (fun q => decide (lo ≤ q.1.toInt ∧ q.1.toInt ≤ hi))))) = true)
    (k : JW D d M (jsw cs dt x) ls st h Q) : JW D d M pc ls (vI x :: st) h Q := by
  simp only [Bool.and_eq_true, decide_eq_true_eq, List.all_eq_true, List.mem_range] at hk
  obtain ⟨k1, k2, k3, k4⟩ := hk
  by_cases h1 : x.toInt < lo ∨ hi < x.toInt
  · refine jw_tblO hd h1 (tgt := dt) k1 ?_
    have : jsw cs dt x = dt := by
      clear k k3
      induction cs with
      | nil => rfl
      | cons q l ih =>
        have := k4 q List.mem_cons_self
        rw [jsw_miss (c := q.1) (t := q.2) (fun e => by rw [← e] at this; omega)]
        exact ih (fun q hq => k4 q (List.mem_cons_of_mem _ hq))
    rwa [this] at k
  · have hz : (x.toInt - lo).toNat < offs.size := by omega
    have h3 := k3 _ hz
    have e1 : Int32.ofInt (lo + ((x.toInt - lo).toNat : Int)) = x := by
      rw [show lo + ((x.toInt - lo).toNat : Int) = x.toInt by omega]
      exact Int32.ofInt_toInt x
    rw [e1] at h3
    have e2 : offs[(x.toInt - lo).toNat]? = some (offs.toList.getD (x.toInt - lo).toNat 0) := by
      rw [List.getD_eq_getElem?_getD, Array.getElem?_toList, Array.getElem?_eq_getElem hz]; rfl
    exact jw_tblI hd (by omega) (by omega) e2 h3 k
theorem jw_lsw {len : Nat} {dflt : Int} {ps : Array (Int × Int)} {x : Int32} {cs : List (Int32 × Nat)} {dt : Nat} (hd : jmT M pc = some (.lookupswitch dflt ps, len))
    (hs : (ps.toList.zip (ps.toList.drop 1)).all (fun (a, next) => a.1 < next.1) = true) (hk : jlk pc dflt dt ps.toList cs = true)
    (k : JW D d M (jsw cs dt x) ls st h Q) : JW D d M pc ls (vI x :: st) h Q :=
  jw_lkp hd hs rfl (jlk_off hk x) k
theorem jw_putI' {F idx t r : Nat} {v : Int32} (hd : jmT M pc = some (.putfield idx, 3)) (hf : jmF M idx = some F) (ht : sbt t (fcl F) = true) (hw : wrt (jkd h r) = true ∨ wtg t = true) (hfin : ffn F = false ∨ ((jmY M).name = "<init>" ∧ fow F = (jmY M).cls)) (htk : ftk F = 0) (hn : narrow (fty F) (.int v) = .int v) (hft : fits (fty F) (.int v) = true) (hlt : Nat.ble F 329 = true) (hr : r ≠ 0)
    (k : ∀ h1, h1 = wfi h F r v → JW D d M pc' ls st h1 Q) (hp : pc + 3 = pc' := by rfl) (hx : jxf F = false ∨ jfi h 330 r ≠ 0 := by exact Or.inl rfl) : JW D d M pc ls (vI v :: vR t r :: st) h Q :=
  jw_putI hd hf ht hw hfin htk hn hft hr (k _ rfl) hp hlt hx
theorem jw_putL' {F idx t r : Nat} {v : Int64} (hd : jmT M pc = some (.putfield idx, 3)) (hf : jmF M idx = some F) (ht : sbt t (fcl F) = true) (hw : wrt (jkd h r) = true ∨ wtg t = true) (hfin : ffn F = false ∨ ((jmY M).name = "<init>" ∧ fow F = (jmY M).cls)) (htk : ftk F = 1) (hn : narrow (fty F) (.long v) = .long v) (hft : fits (fty F) (.long v) = true) (hr : r ≠ 0)
    (k : ∀ h1, h1 = wfl h F r v → JW D d M pc' ls st h1 Q) (hp : pc + 3 = pc' := by rfl) (hx : jxf F = false ∨ jfi h 330 r ≠ 0 := by exact Or.inl rfl) : JW D d M pc ls (vL v :: vR t r :: st) h Q :=
  jw_putL hd hf ht hw hfin htk hn hft hr (k _ rfl) hp hx
theorem jw_putR' {F idx t r : Nat} {v : Nat} (hd : jmT M pc = some (.putfield idx, 3)) (hf : jmF M idx = some F) (ht : sbt t (fcl F) = true) (hw : wrt (jkd h r) = true ∨ wtg t = true) (hfin : ffn F = false ∨ ((jmY M).name = "<init>" ∧ fow F = (jmY M).cls)) (htk : ftk F = 2) (hlt : Nat.ble F 329 = true) {t2 : Nat} (h2 : sbt t2 (ftg F) = true) (hr : r ≠ 0)
    (k : ∀ h1, h1 = wfr h F r v → JW D d M pc' ls st h1 Q) (hp : pc + 3 = pc' := by rfl) (hx : jxf F = false ∨ jfi h 330 r ≠ 0 := by exact Or.inl rfl) : JW D d M pc ls (vR t2 v :: vR t r :: st) h Q :=
  jw_putR hd hf ht hw hfin htk hlt h2 hr (k _ rfl) hp hx
theorem jw_iast' {t r : Nat} {j : Int32} {v : Int32} (hd : jmT M pc = some (.iastore, 1)) (ht : jar_ t = true) (hty : aty t = some .int) (htk : atk t = 0) (hw : wtg t = true) (hr : r ≠ 0) (hi : jin j (jln h r))
    (k : ∀ h1, h1 = wai h r (ixn j) v → JW D d M pc' ls st h1 Q) (hp : pc + 1 = pc' := by rfl) : JW D d M pc ls (vI v :: vI j :: vR t r :: st) h Q :=
  jw_iast hd ht hty htk hw hr hi.ix hi.2 (k _ rfl) hp
theorem jw_bast' {t r : Nat} {j : Int32} {v : Int32} (hd : jmT M pc = some (.bastore, 1)) (ht : jar_ t = true) (hty : aty t = some .byte) (htk : atk t = 0) (hw : wtg t = true) (hr : r ≠ 0) (hi : jin j (jln h r))
    (k : ∀ h1, h1 = wai h r (ixn j) (v.toInt8.toInt32) → JW D d M pc' ls st h1 Q) (hp : pc + 1 = pc' := by rfl) : JW D d M pc ls (vI v :: vI j :: vR t r :: st) h Q :=
  jw_bast hd ht hty htk hw hr hi.ix hi.2 (k _ rfl) hp
theorem jw_zast' {t r : Nat} {j : Int32} {v : Int32} (hd : jmT M pc = some (.bastore, 1)) (ht : jar_ t = true) (hty : aty t = some .boolean) (htk : atk t = 0) (hw : wtg t = true) (hn : narrow .boolean (.int v) = .int v) (hr : r ≠ 0) (hi : jin j (jln h r))
    (k : ∀ h1, h1 = wai h r (ixn j) v → JW D d M pc' ls st h1 Q) (hp : pc + 1 = pc' := by rfl) : JW D d M pc ls (vI v :: vI j :: vR t r :: st) h Q :=
  jw_zast hd ht hty htk hw hn hr hi.ix hi.2 (k _ rfl) hp
theorem jw_sast' {t r : Nat} {j : Int32} {v : Int32} (hd : jmT M pc = some (.sastore, 1)) (ht : jar_ t = true) (hty : aty t = some .short) (htk : atk t = 0) (hw : wtg t = true) (hr : r ≠ 0) (hi : jin j (jln h r))
    (k : ∀ h1, h1 = wai h r (ixn j) (v.toInt16.toInt32) → JW D d M pc' ls st h1 Q) (hp : pc + 1 = pc' := by rfl) : JW D d M pc ls (vI v :: vI j :: vR t r :: st) h Q :=
  jw_sast hd ht hty htk hw hr hi.ix hi.2 (k _ rfl) hp
theorem jw_last' {t r : Nat} {j : Int32} {v : Int64} (hd : jmT M pc = some (.lastore, 1)) (ht : jar_ t = true) (hty : aty t = some .long) (htk : atk t = 1) (hw : wtg t = true) (hr : r ≠ 0) (hi : jin j (jln h r))
    (k : ∀ h1, h1 = wal h r (ixn j) v → JW D d M pc' ls st h1 Q) (hp : pc + 1 = pc' := by rfl) : JW D d M pc ls (vL v :: vI j :: vR t r :: st) h Q :=
  jw_last hd ht hty htk hw hr hi.ix hi.2 (k _ rfl) hp
theorem jw_aast' {t r t2 v : Nat} {j : Int32} {ty : FieldType} (hd : jmT M pc = some (.aastore, 1)) (ht : jar_ t = true) (hty : aty t = some ty) (htk : atk t = 2) (hw : wtg t = true) (h2 : sbt t2 (atg t) = true) (hr : r ≠ 0) (hi : jin j (jln h r))
    (k : ∀ h1, h1 = war h r (ixn j) v → JW D d M pc' ls st h1 Q) (hp : pc + 1 = pc' := by rfl) : JW D d M pc ls (vR t2 v :: vI j :: vR t r :: st) h Q :=
  jw_aast hd ht hty htk hw h2 hr hi.ix hi.2 (k _ rfl) hp
theorem jw_new' {idx k0 k n : Nat} (hd : jmT M pc = some (.new idx, 3)) (hk : jmK M idx = some k0) (hcn : jcn k0 = jcn k) (hj : job_ k = true) (hw : wrt k = true) (hlt : Nat.ble k 225 = true) (hn : jsl_ k = n) (kk : ∀ r1 h1, r1 = jsz h + 1 → h1 = nwo h k n → JW D d M pc' ls (vR k r1 :: st) h1 Q) (hp : pc + 3 = pc' := by rfl) : JW D d M pc ls st h Q :=
  jw_new hd hk hcn hj hw hlt hn (kk _ _ rfl rfl) hp
theorem jw_cI {st0 sa as : List JV} {K : (Int32 → JH → Prop)} (hM : JMok M') (hst : st0 = sa.reverse ++ st) (hc : jchkT (jmP M') sa = true) (has : jret (jmP M') sa = as) (hn : Nat.ble (as.map jct).sum (jmL M') = true) (hcat : Nat.ble ((st.map jct).sum + jmL M') 35 = true) (hno : jnoh M pc = true)
    (hstp : jstp D M M' pc st0 st as h) (callee : JW D d M' 0 (jpad (jent as) (jmL M')) [] h (pI D h K (jth Q)))
    (k : ∀ v h1, jle h h1 → JInv D h1 → K v h1 → JW D (d + 1) M (pc + 3) ls (vI v :: st) h1 Q) : JW D (d + 1) M pc ls st0 h Q := by
  refine jw_call hM hst hc has hn hcat hno hstp callee ?_
  rintro r h1 hP hI hle hok
  rcases r with (_ | (v | v | v)) | x
  · exact (hP hI hle).elim
  · exact k v h1 hle hI (hP hI hle)
  · exact (hP hI hle).elim
  · exact (hP hI hle).elim
  · exact hP hI hle
theorem jw_cIH {st0 sa as : List JV} {K : (Int32 → JH → Prop)} {E : Nat → JH → Prop} (hM : JMok M') (hst : st0 = sa.reverse ++ st) (hc : jchkT (jmP M') sa = true) (has : jret (jmP M') sa = as) (hn : Nat.ble (as.map jct).sum (jmL M') = true) (hcat : Nat.ble ((st.map jct).sum + jmL M') 35 = true)
    (hstp : jstp D M M' pc st0 st as h) (callee : JW D d M' 0 (jpad (jent as) (jmL M')) [] h (pI D h K E))
    (k : ∀ v h1, jle h h1 → JInv D h1 → K v h1 → JW D (d + 1) M (pc + 3) ls (vI v :: st) h1 Q) (kE : ∀ x h1, jle h h1 → JInv D h1 → E x h1 → ∃ hp, job_ (jkd h1 x) = true ∧ jfind M pc (jkd h1 x) (jmH M) = some hp ∧ JW D (d + 1) M hp ls [vR (jkd h1 x) x] h1 Q) : JW D (d + 1) M pc ls st0 h Q := by
  refine jw_callH hM hst hc has hn hcat hstp callee ?_
  rintro r h1 hP hI hle hok
  rcases r with (_ | (v | v | v)) | x
  · exact (hP hI hle).elim
  · exact k v h1 hle hI (hP hI hle)
  · exact (hP hI hle).elim
  · exact (hP hI hle).elim
  · exact kE x h1 hle hI (hP hI hle)
theorem jw_cL {st0 sa as : List JV} {K : (Int64 → JH → Prop)} (hM : JMok M') (hst : st0 = sa.reverse ++ st) (hc : jchkT (jmP M') sa = true) (has : jret (jmP M') sa = as) (hn : Nat.ble (as.map jct).sum (jmL M') = true) (hcat : Nat.ble ((st.map jct).sum + jmL M') 35 = true) (hno : jnoh M pc = true)
    (hstp : jstp D M M' pc st0 st as h) (callee : JW D d M' 0 (jpad (jent as) (jmL M')) [] h (pL D h K (jth Q)))
    (k : ∀ v h1, jle h h1 → JInv D h1 → K v h1 → JW D (d + 1) M (pc + 3) ls (vL v :: st) h1 Q) : JW D (d + 1) M pc ls st0 h Q := by
  refine jw_call hM hst hc has hn hcat hno hstp callee ?_
  rintro r h1 hP hI hle hok
  rcases r with (_ | (v | v | v)) | x
  · exact (hP hI hle).elim
  · exact (hP hI hle).elim
  · exact k v h1 hle hI (hP hI hle)
  · exact (hP hI hle).elim
  · exact hP hI hle
theorem jw_cLH {st0 sa as : List JV} {K : (Int64 → JH → Prop)} {E : Nat → JH → Prop} (hM : JMok M') (hst : st0 = sa.reverse ++ st) (hc : jchkT (jmP M') sa = true) (has : jret (jmP M') sa = as) (hn : Nat.ble (as.map jct).sum (jmL M') = true) (hcat : Nat.ble ((st.map jct).sum + jmL M') 35 = true)
    (hstp : jstp D M M' pc st0 st as h) (callee : JW D d M' 0 (jpad (jent as) (jmL M')) [] h (pL D h K E))
    (k : ∀ v h1, jle h h1 → JInv D h1 → K v h1 → JW D (d + 1) M (pc + 3) ls (vL v :: st) h1 Q) (kE : ∀ x h1, jle h h1 → JInv D h1 → E x h1 → ∃ hp, job_ (jkd h1 x) = true ∧ jfind M pc (jkd h1 x) (jmH M) = some hp ∧ JW D (d + 1) M hp ls [vR (jkd h1 x) x] h1 Q) : JW D (d + 1) M pc ls st0 h Q := by
  refine jw_callH hM hst hc has hn hcat hstp callee ?_
  rintro r h1 hP hI hle hok
  rcases r with (_ | (v | v | v)) | x
  · exact (hP hI hle).elim
  · exact (hP hI hle).elim
  · exact k v h1 hle hI (hP hI hle)
  · exact (hP hI hle).elim
  · exact kE x h1 hle hI (hP hI hle)
theorem jw_cR {st0 sa as : List JV} {g : Nat} {K : (Nat → JH → Prop)} (hM : JMok M') (hst : st0 = sa.reverse ++ st) (hc : jchkT (jmP M') sa = true) (has : jret (jmP M') sa = as) (hn : Nat.ble (as.map jct).sum (jmL M') = true) (hcat : Nat.ble ((st.map jct).sum + jmL M') 35 = true) (hno : jnoh M pc = true)
    (hstp : jstp D M M' pc st0 st as h) (callee : JW D d M' 0 (jpad (jent as) (jmL M')) [] h (pR D h g K (jth Q)))
    (k : ∀ v h1, jle h h1 → JInv D h1 → (v = 0 ∨ sbt (jkd h1 v) g = true) → K v h1 → JW D (d + 1) M (pc + 3) ls (vR g v :: st) h1 Q) : JW D (d + 1) M pc ls st0 h Q := by
  refine jw_call hM hst hc has hn hcat hno hstp callee ?_
  rintro r h1 hP hI hle hok
  rcases r with (_ | (v | v | ⟨t, v⟩)) | x
  · exact (hP hI hle hok).elim
  · exact (hP hI hle hok).elim
  · exact (hP hI hle hok).elim
  · obtain ⟨e, q⟩ := hP hI hle hok
    cases e
    exact k v h1 hle hI hok q
  · exact hP hI hle hok
theorem jw_cRH {st0 sa as : List JV} {g : Nat} {K : (Nat → JH → Prop)} {E : Nat → JH → Prop} (hM : JMok M') (hst : st0 = sa.reverse ++ st) (hc : jchkT (jmP M') sa = true) (has : jret (jmP M') sa = as) (hn : Nat.ble (as.map jct).sum (jmL M') = true) (hcat : Nat.ble ((st.map jct).sum + jmL M') 35 = true)
    (hstp : jstp D M M' pc st0 st as h) (callee : JW D d M' 0 (jpad (jent as) (jmL M')) [] h (pR D h g K E))
    (k : ∀ v h1, jle h h1 → JInv D h1 → (v = 0 ∨ sbt (jkd h1 v) g = true) → K v h1 → JW D (d + 1) M (pc + 3) ls (vR g v :: st) h1 Q) (kE : ∀ x h1, jle h h1 → JInv D h1 → E x h1 → ∃ hp, job_ (jkd h1 x) = true ∧ jfind M pc (jkd h1 x) (jmH M) = some hp ∧ JW D (d + 1) M hp ls [vR (jkd h1 x) x] h1 Q) : JW D (d + 1) M pc ls st0 h Q := by
  refine jw_callH hM hst hc has hn hcat hstp callee ?_
  rintro r h1 hP hI hle hok
  rcases r with (_ | (v | v | ⟨t, v⟩)) | x
  · exact (hP hI hle hok).elim
  · exact (hP hI hle hok).elim
  · exact (hP hI hle hok).elim
  · obtain ⟨e, q⟩ := hP hI hle hok
    cases e
    exact k v h1 hle hI hok q
  · exact kE x h1 hle hI (hP hI hle hok)
theorem jw_cV {st0 sa as : List JV} {K : (JH → Prop)} (hM : JMok M') (hst : st0 = sa.reverse ++ st) (hc : jchkT (jmP M') sa = true) (has : jret (jmP M') sa = as) (hn : Nat.ble (as.map jct).sum (jmL M') = true) (hcat : Nat.ble ((st.map jct).sum + jmL M') 35 = true) (hno : jnoh M pc = true)
    (hstp : jstp D M M' pc st0 st as h) (callee : JW D d M' 0 (jpad (jent as) (jmL M')) [] h (pV D h K (jth Q)))
    (k : ∀ h1, jle h h1 → JInv D h1 → K h1 → JW D (d + 1) M (pc + 3) ls st h1 Q) : JW D (d + 1) M pc ls st0 h Q := by
  refine jw_call hM hst hc has hn hcat hno hstp callee ?_
  rintro r h1 hP hI hle hok
  rcases r with (_ | v) | x
  · exact k h1 hle hI (hP hI hle)
  · rcases v with v | v | v <;> exact (hP hI hle).elim
  · exact hP hI hle
theorem jw_cVH {st0 sa as : List JV} {K : (JH → Prop)} {E : Nat → JH → Prop} (hM : JMok M') (hst : st0 = sa.reverse ++ st) (hc : jchkT (jmP M') sa = true) (has : jret (jmP M') sa = as) (hn : Nat.ble (as.map jct).sum (jmL M') = true) (hcat : Nat.ble ((st.map jct).sum + jmL M') 35 = true)
    (hstp : jstp D M M' pc st0 st as h) (callee : JW D d M' 0 (jpad (jent as) (jmL M')) [] h (pV D h K E))
    (k : ∀ h1, jle h h1 → JInv D h1 → K h1 → JW D (d + 1) M (pc + 3) ls st h1 Q) (kE : ∀ x h1, jle h h1 → JInv D h1 → E x h1 → ∃ hp, job_ (jkd h1 x) = true ∧ jfind M pc (jkd h1 x) (jmH M) = some hp ∧ JW D (d + 1) M hp ls [vR (jkd h1 x) x] h1 Q) : JW D (d + 1) M pc ls st0 h Q := by
  refine jw_callH hM hst hc has hn hcat hstp callee ?_
  rintro r h1 hP hI hle hok
  rcases r with (_ | v) | x
  · exact k h1 hle hI (hP hI hle)
  · rcases v with v | v | v <;> exact (hP hI hle).elim
  · exact kE x h1 hle hI (hP hI hle)
/-- a length that an array can have -/
def jsm (x : Int32) : Prop := ¬ x < 0 ∧ x.toNatClampNeg ≤ 1000000
theorem jsm.ix {x : Int32} (h : jsm x) : jix x (ixn x) := ⟨h.1, rfl⟩
theorem jsm.b {x : Int32} (h : jsm x) : Nat.ble (ixn x) 134217728 = true := Nat.ble_eq.mpr (Nat.le_trans h.2 (by decide))
theorem jsm.bn {x : Int32} (h : jsm x) {m : Nat} (hm : m ≤ 8) : ixn x * m ≤ 536870912 := Nat.le_trans (Nat.mul_le_mul h.2 hm) (by decide)
theorem jsm.b1 {x : Int32} (h : jsm x) : ixn x * 1 ≤ 536870912 := h.bn (by decide)
theorem jsm.b2 {x : Int32} (h : jsm x) : ixn x * 2 ≤ 536870912 := h.bn (by decide)
theorem jsm.b4 {x : Int32} (h : jsm x) : ixn x * 4 ≤ 536870912 := h.bn (by decide)
theorem jsm.b8 {x : Int32} (h : jsm x) : ixn x * 8 ≤ 536870912 := h.bn (by decide)
theorem jw_newa' {k n : Nat} {x : Int32} {at_ : ArrayType} {ty : FieldType} (hd : jmT M pc = some (.newarray at_, 2)) (hat : newarray.typeOf at_ = ty) (hty : aty k = some ty) (hdv : defaultValue ty = match atk k with | 0 => Value.int 0 | 1 => Value.long 0 | _ => Value.null) (hw : wrt k = true) (hlt : Nat.ble k 225 = true) (harr : Cond.arrayClass ty ∈ lw_all) (hx : jix x n) (hbytes : n * componentBytes ty ≤ 536870912)
    (kk : ∀ r1 h1, r1 = jsz h + 1 → h1 = nwa h k n → JW D d M pc' ls (vR k r1 :: st) h1 Q) (hp : pc + 2 = pc' := by rfl) : JW D d M pc ls (vI x :: st) h Q :=
  jw_newa hd hat hty hdv hw hlt harr hx hbytes (kk _ _ rfl rfl) hp
theorem jw_anew' {idx ke k n : Nat} {x : Int32} {C : String} (hd : jmT M pc = some (.anewarray idx, 3)) (hk : jmK M idx = some ke) (hC : jcn ke = C) (hty : aty k = some (.object C)) (htk : atk k = 2) (hw : wrt k = true) (hlt : Nat.ble k 225 = true) (hao : Cond.arrayOver (.object C) ∈ lw_tbl) (hx : jix x n) (hbytes : Nat.ble n 134217728 = true)
    (kk : ∀ r1 h1, r1 = jsz h + 1 → h1 = nwa h k n → JW D d M pc' ls (vR k r1 :: st) h1 Q) (hp : pc + 3 = pc' := by rfl) : JW D d M pc ls (vI x :: st) h Q :=
  jw_anew hd hk hC hty htk hw hlt hao hx hbytes (kk _ _ rfl rfl) hp
theorem jw_anewA' {idx ke k n : Nat} {x : Int32} {t : FieldType} (hd : jmT M pc = some (.anewarray idx, 3)) (hk : jmK M idx = some ke) (hC : jcn ke = (FieldType.array t).toString) (hty : aty k = some (.array t)) (htk : atk k = 2) (hw : wrt k = true) (hlt : Nat.ble k 225 = true) (hao : Cond.arrayOver (.array t) ∈ lw_tbl) (hx : jix x n) (hbytes : Nat.ble n 134217728 = true)
    (kk : ∀ r1 h1, r1 = jsz h + 1 → h1 = nwa h k n → JW D d M pc' ls (vR k r1 :: st) h1 Q) (hp : pc + 3 = pc' := by rfl) : JW D d M pc ls (vI x :: st) h Q :=
  jw_anewA hd hk hC hty htk hw hlt hao hx hbytes (kk _ _ rfl rfl) hp
theorem jw_multi' {idx n m : Nat} {xn xm : Int32} (hd : jmT M pc = some (.multianewarray idx 2, 4)) (hk : jmK M idx = some 94) (hx : jix xn n) (hy : jix xm m) (hbn : Nat.ble n 1000 = true) (hbm : Nat.ble m 1000 = true)
    (kk : ∀ r1 h1, r1 = jsz h + 1 → h1 = jmh h n m n → JW D d M pc' ls (vR 94 r1 :: st) h1 Q) (hp : pc + 4 = pc' := by rfl) : JW D d M pc ls (vI xm :: vI xn :: st) h Q :=
  jw_multi hd hk hx hy hbn hbm (kk _ _ rfl rfl) hp
/-- a copy between byte arrays is within their bounds, and what is copied are bytes -/
def jcpy (h : JH) (r1 : Nat) (xs : Int32) (r2 : Nat) (xd xn : Int32) : Prop := ¬ xs < 0 ∧ ¬ xd < 0 ∧ ¬ xn < 0 ∧ ixn xs + ixn xn ≤ jln h r1 ∧ ixn xd + ixn xn ≤ jln h r2 ∧ ∀ i, i < ixn xn → fits .byte (.int (jai h r1 (ixn xs + i))) = true
theorem jw_acopy' {idx t1 t2 r1 r2 : Nat} {xs xd xn : Int32} (hd : jmT M pc = some (.invokestatic idx, 3)) (hl : Cond.methodLink (jmY M).cls idx arraycopyName ∈ lw_all) (hcat : Nat.ble ((st.map jct).sum) 20 = true) (hr1 : r1 ≠ 0) (hr2 : r2 ≠ 0) (hg : jcpy h r1 xs r2 xd xn)
    (k : ∀ h1, h1 = cpa h r1 (ixn xs) r2 (ixn xd) (ixn xn) → JW D (d + 1) M pc' ls st h1 Q) (ht1 : jar_ t1 = true := by rfl) (ht2 : jar_ t2 = true := by rfl) (hy1 : aty t1 = some .byte := by rfl) (hy2 : aty t2 = some .byte := by rfl) (hk1 : atk t1 = 0 := by rfl) (hk2 : atk t2 = 0 := by rfl) (hw2 : wtg t2 = true := by rfl) (hp : pc + 3 = pc' := by rfl) : JW D (d + 1) M pc ls (vI xn :: vI xd :: vR t2 r2 :: vI xs :: vR t1 r1 :: st) h Q := by
  exact jw_acopy hd hl hcat ht1 ht2 hy1 hy2 hk1 hk2 rfl hw2 hr1 hr2 ⟨hg.1, rfl⟩ ⟨hg.2.1, rfl⟩ ⟨hg.2.2.1, rfl⟩ hg.2.2.2.1 hg.2.2.2.2.1 hg.2.2.2.2.2 (k _ rfl) hp
theorem jw_cast {idx kt t r t2 : Nat} (hd : jmT M pc = some (.checkcast idx, 3)) (hk : jmK M idx = some kt) (hj : job_ kt = true) (ht : sbt kt t2 = true) (hC : r = 0 ∨ jkd h r = kt) (k : JW D d M pc' ls (vR t2 r :: st) h Q) (hp : pc + 3 = pc' := by rfl) : JW D d M pc ls (vR t r :: st) h Q := by
  by_cases h0 : r = 0
  · subst h0; exact jw_cast0 hd k hp
  · have e := Or.resolve_left hC h0
    exact jw_castY hd hk hj h0 (fun _ _ => by rw [e]; exact ⟨hj, rfl, ht⟩) k hp
theorem jw_castS {idx t r : Nat} (hd : jmT M pc = some (.checkcast idx, 3)) (hk : jmK M idx = some 12) (hC : r = 0 ∨ sbt (jkd h r) 64 = true) (k : JW D d M pc' ls (vR 64 r :: st) h Q) (hp : pc + 3 = pc' := by rfl) : JW D d M pc ls (vR t r :: st) h Q := by
  by_cases h0 : r = 0
  · subst h0; exact jw_cast0 hd k hp
  · have e := Or.resolve_left hC h0
    have key : ∀ k, k < 226 → sbt k 64 = true → jkk k = true → job_ k = true ∧ jcn k = jcn 12 := by decide +kernel
    exact jw_castY hd hk rfl h0 (fun hI _ => by have := key _ (sbt_lt e) e (hI.1 r (sbt_ne0 e)).2.2; exact ⟨this.1, this.2, e⟩) k hp
theorem jw_instS {idx t r : Nat} (hd : jmT M pc = some (.instanceof idx, 3)) (hk : jmK M idx = some 12) (hr : r ≠ 0) (hC : sbt (jkd h r) 64 = true) (k : JW D d M pc' ls (vI 1 :: st) h Q) (hp : pc + 3 = pc' := by rfl) : JW D d M pc ls (vR t r :: st) h Q := by
  have key : ∀ k, k < 226 → sbt k 64 = true → jkk k = true → job_ k = true ∧ jcn k = jcn 12 := by decide +kernel
  exact jw_instY hd hk rfl hr (fun hI _ => key _ (sbt_lt hC) hC (hI.1 r (sbt_ne0 hC)).2.2) k hp
theorem jw_inst {idx kt t r : Nat} (hd : jmT M pc = some (.instanceof idx, 3)) (hk : jmK M idx = some kt) (hj : job_ kt = true) (hlt : Nat.ble kt 225 = true) (hN : (List.range 226).all (fun k => !(sbt k t && jkk k) || (Nat.beq k kt || (job_ k && (jneg k kt).isSome))) = true)
    (k1 : (r ≠ 0 ∧ jkd h r = kt) → JW D d M pc' ls (vI 1 :: st) h Q) (k0 : ¬ (r ≠ 0 ∧ jkd h r = kt) → JW D d M pc' ls (vI 0 :: st) h Q) (hp : pc + 3 = pc' := by rfl) : JW D d M pc ls (vR t r :: st) h Q := by
  by_cases h0 : r = 0
  · subst h0; exact jw_inst0 hd (k0 fun q => q.1 rfl) hp
  · by_cases e : jkd h r = kt
    · exact jw_instY hd hk hj h0 (fun _ _ => by rw [e]; exact ⟨hj, rfl⟩) (k1 ⟨h0, e⟩) hp
    · refine jw_instN hd hk hlt h0 (fun hI ho => ?_) (k0 fun q => e q.2) hp
      have hs := Or.resolve_left ho h0
      have := List.all_eq_true.mp hN _ (List.mem_range.mpr (sbt_lt hs))
      have e' : Nat.beq (jkd h r) kt = false := by
        cases hb : Nat.beq (jkd h r) kt with
        | false => rfl
        | true => exact absurd (Nat.eq_of_beq_eq_true hb) e
      simp only [hs, (hI.1 r (sbt_ne0 hs)).2.2, Bool.and_self, Bool.not_true, Bool.false_or, e', Bool.and_eq_true] at this
      exact this
theorem jw_exc9' {idx t r : Nat} (hd : jmT M pc = some (.invokespecial idx, 3)) (hkd : jkd h r = 9) (hraw : jfi h 330 r = 0) (h6 : 6 ≤ d) (hcat : Nat.ble ((st.map jct).sum) 34 = true) (hr : r ≠ 0) (hl : Cond.methodLink (jmY M).cls idx (Bundle.init0 "java/lang/RuntimeException") ∈ lw_all) (k2 : ∀ h1, h1 = wfi h 330 r 1 → JW D d M pc' ls st h1 Q) (hp : pc + 3 = pc' := by rfl) : JW D d M pc ls (vR t r :: st) h Q :=
  jw_exc9 hd hkd hraw h6 hcat hr hl (k2 _ rfl) hp
theorem jw_exc13' {idx t r : Nat} (hd : jmT M pc = some (.invokespecial idx, 3)) (hkd : jkd h r = 13) (hraw : jfi h 330 r = 0) (h6 : 6 ≤ d) (hcat : Nat.ble ((st.map jct).sum) 34 = true) (hr : r ≠ 0) (hl : Cond.methodLink (jmY M).cls idx (Bundle.init0 "java/lang/IllegalArgumentException") ∈ lw_all) (k2 : ∀ h1, h1 = wfi h 330 r 1 → JW D d M pc' ls st h1 Q) (hp : pc + 3 = pc' := by rfl) : JW D d M pc ls (vR t r :: st) h Q :=
  jw_exc13 hd hkd hraw h6 hcat hr hl (k2 _ rfl) hp
theorem jw_exc39' {idx t r : Nat} (hd : jmT M pc = some (.invokespecial idx, 3)) (hkd : jkd h r = 39) (hraw : jfi h 330 r = 0) (h6 : 6 ≤ d) (hcat : Nat.ble ((st.map jct).sum) 34 = true) (hr : r ≠ 0) (hl : Cond.methodLink (jmY M).cls idx (Bundle.init0 "java/lang/IndexOutOfBoundsException") ∈ lw_all) (k2 : ∀ h1, h1 = wfi h 330 r 1 → JW D d M pc' ls st h1 Q) (hp : pc + 3 = pc' := by rfl) : JW D d M pc ls (vR t r :: st) h Q :=
  jw_exc39 hd hkd hraw h6 hcat hr hl (k2 _ rfl) hp
theorem jw_exc40' {idx t r : Nat} (hd : jmT M pc = some (.invokespecial idx, 3)) (hkd : jkd h r = 40) (hraw : jfi h 330 r = 0) (h6 : 6 ≤ d) (hcat : Nat.ble ((st.map jct).sum) 34 = true) (hr : r ≠ 0) (hl : Cond.methodLink (jmY M).cls idx (Bundle.init0 "java/lang/IllegalStateException") ∈ lw_all) (k2 : ∀ h1, h1 = wfi h 330 r 1 → JW D d M pc' ls st h1 Q) (hp : pc + 3 = pc' := by rfl) : JW D d M pc ls (vR t r :: st) h Q :=
  jw_exc40 hd hkd hraw h6 hcat hr hl (k2 _ rfl) hp
end JB
theorem jnz {r n : Nat} (e : r = n + 1) : r ≠ 0 := by rw [e]; exact Nat.succ_ne_zero n
/-- all kinds under a tag are of one class -/
def jone (t : Nat) (C : String) : Prop := ∀ k, sbt k t = true → jkk k = true → job_ k = true ∧ jcn k = C
theorem jone_mk {t : Nat} {C : String} (h : (List.range 226).all (fun k => !(sbt k t && jkk k) || (job_ k && decide (jcn k = C))) = true) : jone t C := by
  intro k hk hj
  have := List.all_eq_true.mp h k (List.mem_range.mpr (sbt_lt hk))
  simp only [hk, hj, Bool.and_self, Bool.not_true, Bool.false_or, Bool.and_eq_true, decide_eq_true_eq] at this
  exact this
theorem jone.k {D : JD} {h : JH} {t r : Nat} {C : String} (ho : jone t C) (hr : r ≠ 0) : JInv D h → jok h (vR t r) → job_ (jkd h r) = true ∧ jcn (jkd h r) = C := by
  intro hI hk
  rcases hk with e | e
  · exact absurd e hr
  · exact ho _ e (hI.1 r (sbt_ne0 e)).2.2
/-- the kinds under a tag -/
def jund (t : Nat) (l : List Nat) : Prop := ∀ k, sbt k t = true → jkk k = true → k ∈ l
theorem jund_mk {t : Nat} {l : List Nat} (h : (List.range 226).all (fun k => !(sbt k t && jkk k) || l.any (fun u => Nat.beq u k)) = true) : jund t l := by
  intro k hk hj
  have := List.all_eq_true.mp h k (List.mem_range.mpr (sbt_lt hk))
  simp only [hk, hj, Bool.and_self, Bool.not_true, Bool.false_or, List.any_eq_true, Nat.beq_eq] at this
  obtain ⟨u, hu, rfl⟩ := this
  exact hu
theorem jund.k {D : JD} {h : JH} {t r : Nat} {l : List Nat} (hu : jund t l) (hI : JInv D h) (ho : jok h (vR t r)) (hr : r ≠ 0) : jkd h r ∈ l := by
  rcases ho with e | e
  · exact absurd e hr
  · exact hu _ e (hI.1 r (sbt_ne0 e)).2.2
